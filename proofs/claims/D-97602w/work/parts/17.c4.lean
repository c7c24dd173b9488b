/-! the system's world -/
abbrev xS : sp_ := ([(199, 1, [.inr (.inl 100), .inr (.inl 101), .inl 102, .inl 103, .inr (.inl 299), .inr (.inl 399), .inr (.inl 106), .inl 107, .inr (.inl 108), .inr (.inr 109), .inl 110, .inr (.inl 111), .inr (.inl 112), .inl 113, .inl 114, .inr (.inl 115), .inl 116]), (299, 2, [.inr (.inl 200), .inr (.inr 201), .inr (.inl 202), .inr (.inl 203), .inl 204, .inr (.inl 205), .inr (.inl 206), .inr (.inl 207), .inr (.inl 208), .inr (.inl 209), .inl 210, .inl 211]), (399, 2, [.inr (.inl 300), .inr (.inr 301), .inr (.inl 302), .inr (.inl 303), .inl 304, .inr (.inl 305), .inr (.inl 306), .inr (.inl 307), .inr (.inl 308), .inr (.inl 309), .inl 310, .inl 311])], [(101, 120, .byte), (111, 8, .int), (112, 8, .int), (115, 8, .int), (200, 6, .int), (202, 5, .int), (203, 5, .int), (205, 8, .int), (206, 8, .int), (207, 8, .int), (208, 8, .int), (209, 8, .int), (300, 6, .int), (302, 5, .int), (303, 5, .int), (305, 8, .int), (306, 8, .int), (307, 8, .int), (308, 8, .int), (309, 8, .int)], [(100, 8, "PromisePounds$Row"), (106, 24, "PromisePounds$Parish"), (108, 2, "PromisePounds$Parish")])
theorem xwf : wfS xS := ⟨by decide +kernel, by decide +kernel, by decide +kernel, by decide +kernel, by decide +kernel, by decide +kernel⟩
theorem xO199 : ((199, 1, [.inr (.inl 100), .inr (.inl 101), .inl 102, .inl 103, .inr (.inl 299), .inr (.inl 399), .inr (.inl 106), .inl 107, .inr (.inl 108), .inr (.inr 109), .inl 110, .inr (.inl 111), .inr (.inl 112), .inl 113, .inl 114, .inr (.inl 115), .inl 116]) : Nat × Nat × List fc_) ∈ xS.1 := List.mem_of_getElem? (i := 0) rfl
theorem xO299 : ((299, 2, [.inr (.inl 200), .inr (.inr 201), .inr (.inl 202), .inr (.inl 203), .inl 204, .inr (.inl 205), .inr (.inl 206), .inr (.inl 207), .inr (.inl 208), .inr (.inl 209), .inl 210, .inl 211]) : Nat × Nat × List fc_) ∈ xS.1 := List.mem_of_getElem? (i := 1) rfl
theorem xO399 : ((399, 2, [.inr (.inl 300), .inr (.inr 301), .inr (.inl 302), .inr (.inl 303), .inl 304, .inr (.inl 305), .inr (.inl 306), .inr (.inl 307), .inr (.inl 308), .inr (.inl 309), .inl 310, .inl 311]) : Nat × Nat × List fc_) ∈ xS.1 := List.mem_of_getElem? (i := 2) rfl
theorem xA101 : ((101, 120, .byte) : Nat × Nat × FieldType) ∈ xS.2.1 := List.mem_of_getElem? (i := 0) rfl
theorem xA111 : ((111, 8, .int) : Nat × Nat × FieldType) ∈ xS.2.1 := List.mem_of_getElem? (i := 1) rfl
theorem xA112 : ((112, 8, .int) : Nat × Nat × FieldType) ∈ xS.2.1 := List.mem_of_getElem? (i := 2) rfl
theorem xA115 : ((115, 8, .int) : Nat × Nat × FieldType) ∈ xS.2.1 := List.mem_of_getElem? (i := 3) rfl
theorem xA200 : ((200, 6, .int) : Nat × Nat × FieldType) ∈ xS.2.1 := List.mem_of_getElem? (i := 4) rfl
theorem xA202 : ((202, 5, .int) : Nat × Nat × FieldType) ∈ xS.2.1 := List.mem_of_getElem? (i := 5) rfl
theorem xA203 : ((203, 5, .int) : Nat × Nat × FieldType) ∈ xS.2.1 := List.mem_of_getElem? (i := 6) rfl
theorem xA205 : ((205, 8, .int) : Nat × Nat × FieldType) ∈ xS.2.1 := List.mem_of_getElem? (i := 7) rfl
theorem xA206 : ((206, 8, .int) : Nat × Nat × FieldType) ∈ xS.2.1 := List.mem_of_getElem? (i := 8) rfl
theorem xA207 : ((207, 8, .int) : Nat × Nat × FieldType) ∈ xS.2.1 := List.mem_of_getElem? (i := 9) rfl
theorem xA208 : ((208, 8, .int) : Nat × Nat × FieldType) ∈ xS.2.1 := List.mem_of_getElem? (i := 10) rfl
theorem xA209 : ((209, 8, .int) : Nat × Nat × FieldType) ∈ xS.2.1 := List.mem_of_getElem? (i := 11) rfl
theorem xA300 : ((300, 6, .int) : Nat × Nat × FieldType) ∈ xS.2.1 := List.mem_of_getElem? (i := 12) rfl
theorem xA302 : ((302, 5, .int) : Nat × Nat × FieldType) ∈ xS.2.1 := List.mem_of_getElem? (i := 13) rfl
theorem xA303 : ((303, 5, .int) : Nat × Nat × FieldType) ∈ xS.2.1 := List.mem_of_getElem? (i := 14) rfl
theorem xA305 : ((305, 8, .int) : Nat × Nat × FieldType) ∈ xS.2.1 := List.mem_of_getElem? (i := 15) rfl
theorem xA306 : ((306, 8, .int) : Nat × Nat × FieldType) ∈ xS.2.1 := List.mem_of_getElem? (i := 16) rfl
theorem xA307 : ((307, 8, .int) : Nat × Nat × FieldType) ∈ xS.2.1 := List.mem_of_getElem? (i := 17) rfl
theorem xA308 : ((308, 8, .int) : Nat × Nat × FieldType) ∈ xS.2.1 := List.mem_of_getElem? (i := 18) rfl
theorem xA309 : ((309, 8, .int) : Nat × Nat × FieldType) ∈ xS.2.1 := List.mem_of_getElem? (i := 19) rfl
theorem xG100 : ((100, 8, "PromisePounds$Row") : Nat × Nat × String) ∈ xS.2.2 := List.mem_of_getElem? (i := 0) rfl
theorem xG106 : ((106, 24, "PromisePounds$Parish") : Nat × Nat × String) ∈ xS.2.2 := List.mem_of_getElem? (i := 1) rfl
theorem xG108 : ((108, 2, "PromisePounds$Parish") : Nat × Nat × String) ∈ xS.2.2 := List.mem_of_getElem? (i := 2) rfl
theorem AP.sub {S Sr Sp : sp_} {k : Nat} {D : dd_} {ad : Nat → Nat} {I : Nat → Int32} {A : Nat → Nat → Int32} {R : Nat → Option Nat} {G : Nat → Nat → Option Nat} {X : va_W} {base : Nat} (h : AP S ad X base) (hr : wfS Sr) (h1 : ∀ i ∈ idxS Sp, k + i ∈ idxS S) (h2 : ∀ i ∈ idxS Sr, i ∈ idxS S) (h3 : ∀ j ∈ idxS Sr, ∀ i ∈ idxS Sp, j ≠ k + i) : AP Sp (sh k ad) (wl D Sr ad I A R G ++ X) base := by
  obtain ⟨a1, a2, a3, a4⟩ := h
  have hs : AP Sr ad X base := ⟨fun i hi j hj e => a1 i (h2 i hi) j (h2 j hj) e, fun i hi q hq => a2 i (h2 i hi) q hq, a3, fun i hi => a4 i (h2 i hi)⟩
  refine ⟨fun i hi j hj e => ?_, fun i hi q hq => ?_, wx_D hr hs, fun i hi => a4 _ (h1 i hi)⟩
  · have := a1 _ (h1 i hi) _ (h1 j hj) e
    omega
  · rcases List.mem_append.mp hq with h | h
    · obtain ⟨p, hp⟩ := List.getElem?_of_mem h
      obtain ⟨j, hj, e⟩ := wl_at hp
      intro z
      exact h3 j (List.mem_of_getElem? hj) i hi (a1 j (h2 j (List.mem_of_getElem? hj)) _ (h1 i hi) (by rw [← e]; exact z))
    · exact a2 _ (h1 i hi) q h
abbrev xS200 : sp_ := ([(199, 1, [.inr (.inl 100), .inr (.inl 101), .inl 102, .inl 103, .inr (.inl 299), .inr (.inl 399), .inr (.inl 106), .inl 107, .inr (.inl 108), .inr (.inr 109), .inl 110, .inr (.inl 111), .inr (.inl 112), .inl 113, .inl 114, .inr (.inl 115), .inl 116]), (399, 2, [.inr (.inl 300), .inr (.inr 301), .inr (.inl 302), .inr (.inl 303), .inl 304, .inr (.inl 305), .inr (.inl 306), .inr (.inl 307), .inr (.inl 308), .inr (.inl 309), .inl 310, .inl 311])], [(101, 120, .byte), (111, 8, .int), (112, 8, .int), (115, 8, .int), (300, 6, .int), (302, 5, .int), (303, 5, .int), (305, 8, .int), (306, 8, .int), (307, 8, .int), (308, 8, .int), (309, 8, .int)], [(100, 8, "PromisePounds$Row"), (106, 24, "PromisePounds$Parish"), (108, 2, "PromisePounds$Parish")])
theorem xwf200 : wfS xS200 := ⟨by decide +kernel, by decide +kernel, by decide +kernel, by decide +kernel, by decide +kernel, by decide +kernel⟩
def xr200 (D : dd_) (ad : Nat → Nat) (I : Nat → Int32) (A : Nat → Nat → Int32) (R : Nat → Option Nat) (G : Nat → Nat → Option Nat) (X : va_W) : va_W := wl D xS200 ad I A R G ++ X
theorem xap200 {D : dd_} {ad : Nat → Nat} {I : Nat → Int32} {A : Nat → Nat → Int32} {R : Nat → Option Nat} {G : Nat → Nat → Option Nat} {X : va_W} {base : Nat} (h : AP xS ad X base) : AP pS (sh 200 ad) (xr200 D ad I A R G X) base := AP.sub h xwf200 (by decide +kernel) (by decide +kernel) (by decide +kernel)
theorem xrg200 {D : dd_} {ad : Nat → Nat} {I : Nat → Int32} {A : Nat → Nat → Int32} {R : Nat → Option Nat} {G : Nat → Nat → Option Nat} {X : va_W} {pl n : Nat} {ks : Nat → Nat} (h : RegX D X pl n ks) : RegX D (xr200 D ad I A R G X) pl n ks := h.mono (fun q hq => List.mem_append_right _ hq)
set_option maxRecDepth 100000 in
theorem xw200 {D : dd_} {ad : Nat → Nat} {I : Nat → Int32} {A : Nat → Nat → Int32} {R : Nat → Option Nat} {G : Nat → Nat → Option Nat} {X : va_W} {H : Heap} (hW : WX D xS ad I A R G X H) : WX D pS (sh 200 ad) (sh 200 I) (sh 200 A) (sh 200 R) nG (xr200 D ad I A R G X) H := by
  refine vaP_mem hW (fun q hq => ?_)
  rcases List.mem_append.mp hq with h | h
  · exact List.mem_append_left _ (sub_mem [1, 7, 8, 9, 10, 11, 12, 13, 14] rfl q h)
  · rcases List.mem_append.mp h with h | h
    · exact List.mem_append_left _ (sub_mem [0, 2, 3, 4, 5, 6, 15, 16, 17, 18, 19, 20, 21, 22, 23, 24, 25] rfl q h)
    · exact List.mem_append_right _ h
set_option maxRecDepth 100000 in
theorem xu200 {D : dd_} {ad : Nat → Nat} {I : Nat → Int32} {A : Nat → Nat → Int32} {R : Nat → Option Nat} {G : Nat → Nat → Option Nat} {X : va_W} {H : Heap} {I1 I' : Nat → Int32} {A1 A' : Nat → Nat → Int32} {R1 R' : Nat → Option Nat} (eI : I' = mg 200 I I1) (eA : A' = mg 200 A A1) (eR : R' = mg 200 R R1) (hW : WX D pS (sh 200 ad) I1 A1 R1 nG (xr200 D ad I A R G X) H) : WX D xS ad I' A' R' G X H := by
  subst eI; subst eA; subst eR
  refine vaP_mem hW (fun q hq => ?_)
  have hW2 : ∀ z ∈ (wl D pS (sh 200 ad) I1 A1 R1 nG ++ wl D xS200 ad I A R G) ++ X, z ∈ wl D pS (sh 200 ad) I1 A1 R1 nG ++ xr200 D ad I A R G X := by
    intro z hz
    rw [List.append_assoc] at hz
    exact hz
  refine hW2 q ?_
  rcases List.mem_append.mp hq with h | h
  · exact List.mem_append_left _ (sub_mem [9, 0, 10, 11, 12, 13, 14, 1, 2, 3, 4, 5, 6, 7, 8, 15, 16, 17, 18, 19, 20, 21, 22, 23, 24, 25] rfl q h)
  · exact List.mem_append_right _ h
abbrev xS300 : sp_ := ([(199, 1, [.inr (.inl 100), .inr (.inl 101), .inl 102, .inl 103, .inr (.inl 299), .inr (.inl 399), .inr (.inl 106), .inl 107, .inr (.inl 108), .inr (.inr 109), .inl 110, .inr (.inl 111), .inr (.inl 112), .inl 113, .inl 114, .inr (.inl 115), .inl 116]), (299, 2, [.inr (.inl 200), .inr (.inr 201), .inr (.inl 202), .inr (.inl 203), .inl 204, .inr (.inl 205), .inr (.inl 206), .inr (.inl 207), .inr (.inl 208), .inr (.inl 209), .inl 210, .inl 211])], [(101, 120, .byte), (111, 8, .int), (112, 8, .int), (115, 8, .int), (200, 6, .int), (202, 5, .int), (203, 5, .int), (205, 8, .int), (206, 8, .int), (207, 8, .int), (208, 8, .int), (209, 8, .int)], [(100, 8, "PromisePounds$Row"), (106, 24, "PromisePounds$Parish"), (108, 2, "PromisePounds$Parish")])
theorem xwf300 : wfS xS300 := ⟨by decide +kernel, by decide +kernel, by decide +kernel, by decide +kernel, by decide +kernel, by decide +kernel⟩
def xr300 (D : dd_) (ad : Nat → Nat) (I : Nat → Int32) (A : Nat → Nat → Int32) (R : Nat → Option Nat) (G : Nat → Nat → Option Nat) (X : va_W) : va_W := wl D xS300 ad I A R G ++ X
theorem xap300 {D : dd_} {ad : Nat → Nat} {I : Nat → Int32} {A : Nat → Nat → Int32} {R : Nat → Option Nat} {G : Nat → Nat → Option Nat} {X : va_W} {base : Nat} (h : AP xS ad X base) : AP pS (sh 300 ad) (xr300 D ad I A R G X) base := AP.sub h xwf300 (by decide +kernel) (by decide +kernel) (by decide +kernel)
theorem xrg300 {D : dd_} {ad : Nat → Nat} {I : Nat → Int32} {A : Nat → Nat → Int32} {R : Nat → Option Nat} {G : Nat → Nat → Option Nat} {X : va_W} {pl n : Nat} {ks : Nat → Nat} (h : RegX D X pl n ks) : RegX D (xr300 D ad I A R G X) pl n ks := h.mono (fun q hq => List.mem_append_right _ hq)
set_option maxRecDepth 100000 in
theorem xw300 {D : dd_} {ad : Nat → Nat} {I : Nat → Int32} {A : Nat → Nat → Int32} {R : Nat → Option Nat} {G : Nat → Nat → Option Nat} {X : va_W} {H : Heap} (hW : WX D xS ad I A R G X H) : WX D pS (sh 300 ad) (sh 300 I) (sh 300 A) (sh 300 R) nG (xr300 D ad I A R G X) H := by
  refine vaP_mem hW (fun q hq => ?_)
  rcases List.mem_append.mp hq with h | h
  · exact List.mem_append_left _ (sub_mem [2, 15, 16, 17, 18, 19, 20, 21, 22] rfl q h)
  · rcases List.mem_append.mp h with h | h
    · exact List.mem_append_left _ (sub_mem [0, 1, 3, 4, 5, 6, 7, 8, 9, 10, 11, 12, 13, 14, 23, 24, 25] rfl q h)
    · exact List.mem_append_right _ h
set_option maxRecDepth 100000 in
theorem xu300 {D : dd_} {ad : Nat → Nat} {I : Nat → Int32} {A : Nat → Nat → Int32} {R : Nat → Option Nat} {G : Nat → Nat → Option Nat} {X : va_W} {H : Heap} {I1 I' : Nat → Int32} {A1 A' : Nat → Nat → Int32} {R1 R' : Nat → Option Nat} (eI : I' = mg 300 I I1) (eA : A' = mg 300 A A1) (eR : R' = mg 300 R R1) (hW : WX D pS (sh 300 ad) I1 A1 R1 nG (xr300 D ad I A R G X) H) : WX D xS ad I' A' R' G X H := by
  subst eI; subst eA; subst eR
  refine vaP_mem hW (fun q hq => ?_)
  have hW2 : ∀ z ∈ (wl D pS (sh 300 ad) I1 A1 R1 nG ++ wl D xS300 ad I A R G) ++ X, z ∈ wl D pS (sh 300 ad) I1 A1 R1 nG ++ xr300 D ad I A R G X := by
    intro z hz
    rw [List.append_assoc] at hz
    exact hz
  refine hW2 q ?_
  rcases List.mem_append.mp hq with h | h
  · exact List.mem_append_left _ (sub_mem [9, 10, 0, 11, 12, 13, 14, 15, 16, 17, 18, 19, 20, 21, 22, 1, 2, 3, 4, 5, 6, 7, 8, 23, 24, 25] rfl q h)
  · exact List.mem_append_right _ h
def sl2 {α : Type} (a b : Nat) (f : Nat → α) : Nat → α := fun i => if i < 100 then f (a + i) else f (b + (i - 100))
abbrev xSx : sp_ := ([(199, 1, [.inr (.inl 100), .inr (.inl 101), .inl 102, .inl 103, .inr (.inl 299), .inr (.inl 399), .inr (.inl 106), .inl 107, .inr (.inl 108), .inr (.inr 109), .inl 110, .inr (.inl 111), .inr (.inl 112), .inl 113, .inl 114, .inr (.inl 115), .inl 116])], [(101, 120, .byte), (111, 8, .int), (112, 8, .int), (115, 8, .int)], [(100, 8, "PromisePounds$Row"), (106, 24, "PromisePounds$Parish"), (108, 2, "PromisePounds$Parish")])
theorem xwfx : wfS xSx := ⟨by decide +kernel, by decide +kernel, by decide +kernel, by decide +kernel, by decide +kernel, by decide +kernel⟩
def xq (D : dd_) (ad : Nat → Nat) (I : Nat → Int32) (A : Nat → Nat → Int32) (R : Nat → Option Nat) (G : Nat → Nat → Option Nat) (X : va_W) : va_W := wl D xSx ad I A R G ++ X
theorem xqap {D : dd_} {ad : Nat → Nat} {I : Nat → Int32} {A : Nat → Nat → Int32} {R : Nat → Option Nat} {G : Nat → Nat → Option Nat} {X : va_W} {base : Nat} (h : AP xS ad X base) : AP p2S (sl2 300 200 ad) (xq D ad I A R G X) base := by
  obtain ⟨a1, a2, a3, a4⟩ := h
  have hs : AP xSx ad X base := ⟨fun i hi j hj e => a1 i ((by decide +kernel : ∀ i ∈ idxS xSx, i ∈ idxS xS) i hi) j ((by decide +kernel : ∀ i ∈ idxS xSx, i ∈ idxS xS) j hj) e, fun i hi q hq => a2 i ((by decide +kernel : ∀ i ∈ idxS xSx, i ∈ idxS xS) i hi) q hq, a3, fun i hi => a4 i ((by decide +kernel : ∀ i ∈ idxS xSx, i ∈ idxS xS) i hi)⟩
  have hm : ∀ i ∈ idxS p2S, (if i < 100 then 300 + i else 200 + (i - 100)) ∈ idxS xS := by decide +kernel
  have he : ∀ i, sl2 300 200 ad i = ad (if i < 100 then 300 + i else 200 + (i - 100)) := fun i => by unfold sl2; split <;> rfl
  have hn : ∀ i ∈ idxS p2S, i < 200 := by decide +kernel
  refine ⟨fun i hi j hj e => ?_, fun i hi q hq => ?_, wx_D xwfx hs, fun i hi => by rw [he]; exact a4 _ (hm i hi)⟩
  · rw [he, he] at e
    have e1 := a1 _ (hm i hi) _ (hm j hj) e
    have e2 := hn i hi
    have e3 := hn j hj
    split at e1 <;> split at e1 <;> omega
  · rw [he]
    rcases List.mem_append.mp hq with h | h
    · obtain ⟨p, hp⟩ := List.getElem?_of_mem h
      obtain ⟨j, hj, e⟩ := wl_at hp
      intro z
      have e1 := a1 j ((by decide +kernel : ∀ i ∈ idxS xSx, i ∈ idxS xS) j (List.mem_of_getElem? hj)) _ (hm i hi) (by rw [← e]; exact z)
      have e2 : ∀ j ∈ idxS xSx, j < 200 := by decide +kernel
      have e3 := e2 j (List.mem_of_getElem? hj)
      split at e1 <;> omega
    · exact a2 _ (hm i hi) q h
set_option maxRecDepth 100000 in
theorem xqw {D : dd_} {ad : Nat → Nat} {I : Nat → Int32} {A : Nat → Nat → Int32} {R : Nat → Option Nat} {G : Nat → Nat → Option Nat} {X : va_W} {H : Heap} (hW : WX D xS ad I A R G X H) : WX D p2S (sl2 300 200 ad) (sl2 300 200 I) (sl2 300 200 A) (sl2 300 200 R) nG (xq D ad I A R G X) H := by
  refine vaP_mem hW (fun q hq => ?_)
  rcases List.mem_append.mp hq with h | h
  · exact List.mem_append_left _ (sub_mem [2, 1, 15, 16, 17, 18, 19, 20, 21, 22, 7, 8, 9, 10, 11, 12, 13, 14] rfl q h)
  · rcases List.mem_append.mp h with h | h
    · exact List.mem_append_left _ (sub_mem [0, 3, 4, 5, 6, 23, 24, 25] rfl q h)
    · exact List.mem_append_right _ h
set_option maxRecDepth 100000 in
theorem xqu {D : dd_} {ad : Nat → Nat} {I : Nat → Int32} {A : Nat → Nat → Int32} {R : Nat → Option Nat} {G : Nat → Nat → Option Nat} {X : va_W} {H : Heap} {I1 : Nat → Int32} {A1 : Nat → Nat → Int32} {R1 : Nat → Option Nat} (hW : WX D p2S (sl2 300 200 ad) I1 A1 R1 nG (xq D ad I A R G X) H) : WX D xS ad (mg 300 (mg 200 I (sh 100 I1)) I1) (mg 300 (mg 200 A (sh 100 A1)) A1) (mg 300 (mg 200 R (sh 100 R1)) R1) G X H := by
  refine vaP_mem hW (fun q hq => ?_)
  have hW2 : ∀ z ∈ (wl D p2S (sl2 300 200 ad) I1 A1 R1 nG ++ wl D xSx ad I A R G) ++ X, z ∈ wl D p2S (sl2 300 200 ad) I1 A1 R1 nG ++ xq D ad I A R G X := by
    intro z hz
    rw [List.append_assoc] at hz
    exact hz
  refine hW2 q ?_
  rcases List.mem_append.mp hq with h | h
  · exact List.mem_append_left _ (sub_mem [18, 1, 0, 19, 20, 21, 22, 10, 11, 12, 13, 14, 15, 16, 17, 2, 3, 4, 5, 6, 7, 8, 9, 23, 24, 25] rfl q h)
  · exact List.mem_append_right _ h
def k_isVotedFor (kd : Nat) : Option Int32 := if kd = 1 then k8_isVotedFor  else if kd = 2 then k10_isVotedFor  else if kd = 3 then k8_isVotedFor  else if kd = 4 then k8_isVotedFor  else k8_isVotedFor 
set_option maxHeartbeats 4000000 in
theorem pe_isVotedFor_X0 {p : Program} {l : Launch} {e : Env} {R0 : Room} {s : State} {m : MethodId} {args : Array Value} {below : List Frame} {meth : Method} {c : Code} {H : Heap} {locs : List Loc} {cells slots : Nat} {Q : State → Prop} {cc : ByteArray} {pc nL : Nat} {ls : Array Slot} {rest : List Value} {D : dd_} {s0 : State} {S : sp_} {ad : Nat → Nat} {I : Nat → Int32} {A : Nat → Nat → Int32} {R : Nat → Option Nat} {G : Nat → Nat → Option Nat} {X : va_W} {base : Nat} {b kd : Nat} {z : Int32} (hx : p.tables.exec = Jvm.exec) (hb : c.code = cc) (hml : c.maxLocals = nL) (hown : s.vm.findClass RX0 = some m.cls) (hts : ∀ w ∈ lw_all, w.before args s = true) (hK : Kx D s) (hY : s0.WarmedH s.vm) (h0 : ∀ w ∈ lw_tbl, va_Nw w s0) (hRf : 2 ≤ R0.frames) (hRl : 52 ≤ R0.locals) (hcs : cells ≤ R0.cells ∧ slots ≤ R0.slots) (hB : base ≤ H.size) (hW : WX D S ad I A R G X H) (hm : (b, Sum.inr (7 + kd, [.int z])) ∈ X) (h1 : 1 ≤ kd) (h5 : kd ≤ 5) {v : Int32} (h : k_isVotedFor kd  = some v) (hls : ls.size = nL) (hr : (rest.map fun v => v.category).sum ≤ 8) (hdg : decode cc pc = .ok (.invokevirtual 312, 3)) (kk : W p l e R0 s m args below meth c H locs cells slots Q (F0 m (pc + 3) ls (.int v :: rest))) : W p l e R0 s m args below meth c H locs cells slots Q (F0 m pc ls (.ref b :: rest)) := by
  have hc : kd = 1 ∨ kd = 2 ∨ kd = 3 ∨ kd = 4 ∨ kd = 5 := by omega
  have hm2 := List.mem_append_right (wl D S ad I A R G) hm
  rcases hc with rfl | rfl | rfl | rfl | rfl
  · exact x_uR (ov := some (.int v)) (D := D) (s0 := s0) (Sc := nS) (adc := ad) (Ic := fun _ => 0) (Ac := fun _ _ => 0) (Rc := nR) (Gc := nG) (Xc := wl D S ad I A R G ++ X) (base := base) (b := b) (As := []) (rest := rest) (C := RX9) ⟨hx, hb, hml, hown, hts⟩ (k8_isVotedFor_met l D s0 h0 ad (wl D S ad I A R G ++ X) base b  v h) (va_cwU (owner := RX8) 0 hts (lw_U q979 q981 q986 q980 q97 q989) rfl rfl rfl rfl (by decide +kernel) ⟨Nat.le_trans (Nat.le_of_ble_eq_true rfl) hRf, Nat.le_trans (Nat.le_of_ble_eq_true rfl) hRl⟩) (x_recvD (ci := 8) hK hW hm rfl) hK hY hB hW hcs rfl hls rfl hr hdg kk
  · exact x_uR (ov := some (.int v)) (D := D) (s0 := s0) (Sc := nS) (adc := ad) (Ic := fun _ => 0) (Ac := fun _ _ => 0) (Rc := nR) (Gc := nG) (Xc := wl D S ad I A R G ++ X) (base := base) (b := b) (As := []) (rest := rest) (C := RX10) ⟨hx, hb, hml, hown, hts⟩ (k10_isVotedFor_met l D s0 h0 ad (wl D S ad I A R G ++ X) base b  v h) (va_cwO (owner := RX8) 0 hts (lw_O q979 q981 q980 q982 q983 q99 q984) rfl rfl rfl q989 (by decide +kernel) ⟨Nat.le_trans (Nat.le_of_ble_eq_true rfl) hRf, Nat.le_trans (Nat.le_of_ble_eq_true rfl) hRl⟩) (x_recvD (ci := 9) hK hW hm rfl) hK hY hB hW hcs rfl hls rfl hr hdg kk
  · exact x_uR (ov := some (.int v)) (D := D) (s0 := s0) (Sc := nS) (adc := ad) (Ic := fun _ => 0) (Ac := fun _ _ => 0) (Rc := nR) (Gc := nG) (Xc := wl D S ad I A R G ++ X) (base := base) (b := b) (As := []) (rest := rest) (C := RX11) ⟨hx, hb, hml, hown, hts⟩ (k8_isVotedFor_met l D s0 h0 ad (wl D S ad I A R G ++ X) base b  v h) (va_cwU (owner := RX8) 0 hts (lw_U q979 q981 q988 q980 q97 q989) rfl rfl rfl rfl (by decide +kernel) ⟨Nat.le_trans (Nat.le_of_ble_eq_true rfl) hRf, Nat.le_trans (Nat.le_of_ble_eq_true rfl) hRl⟩) (x_recvD (ci := 10) hK hW hm rfl) hK hY hB hW hcs rfl hls rfl hr hdg kk
  · exact x_uR (ov := some (.int v)) (D := D) (s0 := s0) (Sc := nS) (adc := ad) (Ic := fun _ => 0) (Ac := fun _ _ => 0) (Rc := nR) (Gc := nG) (Xc := wl D S ad I A R G ++ X) (base := base) (b := b) (As := []) (rest := rest) (C := RX12) ⟨hx, hb, hml, hown, hts⟩ (k8_isVotedFor_met l D s0 h0 ad (wl D S ad I A R G ++ X) base b  v h) (va_cwU (owner := RX8) 0 hts (lw_U q979 q981 q985 q980 q97 q989) rfl rfl rfl rfl (by decide +kernel) ⟨Nat.le_trans (Nat.le_of_ble_eq_true rfl) hRf, Nat.le_trans (Nat.le_of_ble_eq_true rfl) hRl⟩) (x_recvD (ci := 11) hK hW hm rfl) hK hY hB hW hcs rfl hls rfl hr hdg kk
  · exact x_uR (ov := some (.int v)) (D := D) (s0 := s0) (Sc := nS) (adc := ad) (Ic := fun _ => 0) (Ac := fun _ _ => 0) (Rc := nR) (Gc := nG) (Xc := wl D S ad I A R G ++ X) (base := base) (b := b) (As := []) (rest := rest) (C := RX13) ⟨hx, hb, hml, hown, hts⟩ (k8_isVotedFor_met l D s0 h0 ad (wl D S ad I A R G ++ X) base b  v h) (va_cwU (owner := RX8) 0 hts (lw_U q979 q981 q987 q980 q97 q989) rfl rfl rfl rfl (by decide +kernel) ⟨Nat.le_trans (Nat.le_of_ble_eq_true rfl) hRf, Nat.le_trans (Nat.le_of_ble_eq_true rfl) hRl⟩) (x_recvD (ci := 12) hK hW hm rfl) hK hY hB hW hcs rfl hls rfl hr hdg kk
def k_kind (kd : Nat) : Option Int32 := if kd = 1 then k9_kind  else if kd = 2 then k10_kind  else if kd = 3 then k11_kind  else if kd = 4 then k12_kind  else k13_kind 
set_option maxHeartbeats 4000000 in
theorem pe_kind_X0 {p : Program} {l : Launch} {e : Env} {R0 : Room} {s : State} {m : MethodId} {args : Array Value} {below : List Frame} {meth : Method} {c : Code} {H : Heap} {locs : List Loc} {cells slots : Nat} {Q : State → Prop} {cc : ByteArray} {pc nL : Nat} {ls : Array Slot} {rest : List Value} {D : dd_} {s0 : State} {S : sp_} {ad : Nat → Nat} {I : Nat → Int32} {A : Nat → Nat → Int32} {R : Nat → Option Nat} {G : Nat → Nat → Option Nat} {X : va_W} {base : Nat} {b kd : Nat} {z : Int32} (hx : p.tables.exec = Jvm.exec) (hb : c.code = cc) (hml : c.maxLocals = nL) (hown : s.vm.findClass RX0 = some m.cls) (hts : ∀ w ∈ lw_all, w.before args s = true) (hK : Kx D s) (hY : s0.WarmedH s.vm) (h0 : ∀ w ∈ lw_tbl, va_Nw w s0) (hRf : 2 ≤ R0.frames) (hRl : 52 ≤ R0.locals) (hcs : cells ≤ R0.cells ∧ slots ≤ R0.slots) (hB : base ≤ H.size) (hW : WX D S ad I A R G X H) (hm : (b, Sum.inr (7 + kd, [.int z])) ∈ X) (h1 : 1 ≤ kd) (h5 : kd ≤ 5) {v : Int32} (h : k_kind kd  = some v) (hls : ls.size = nL) (hr : (rest.map fun v => v.category).sum ≤ 8) (hdg : decode cc pc = .ok (.invokevirtual 356, 3)) (kk : W p l e R0 s m args below meth c H locs cells slots Q (F0 m (pc + 3) ls (.int v :: rest))) : W p l e R0 s m args below meth c H locs cells slots Q (F0 m pc ls (.ref b :: rest)) := by
  have hc : kd = 1 ∨ kd = 2 ∨ kd = 3 ∨ kd = 4 ∨ kd = 5 := by omega
  have hm2 := List.mem_append_right (wl D S ad I A R G) hm
  rcases hc with rfl | rfl | rfl | rfl | rfl
  · exact x_uR (ov := some (.int v)) (D := D) (s0 := s0) (Sc := nS) (adc := ad) (Ic := fun _ => 0) (Ac := fun _ _ => 0) (Rc := nR) (Gc := nG) (Xc := wl D S ad I A R G ++ X) (base := base) (b := b) (As := []) (rest := rest) (C := RX9) ⟨hx, hb, hml, hown, hts⟩ (k9_kind_met l D s0 h0 ad (wl D S ad I A R G ++ X) base b  v h) (va_cwA (owner := RX8) 0 hts (lw_U q1062 q1064 q1071 q1072 q98 q1073) rfl rfl rfl (va_Nw.warmD hY (h0 _ q1063)) (by decide +kernel) ⟨Nat.le_trans (Nat.le_of_ble_eq_true rfl) hRf, Nat.le_trans (Nat.le_of_ble_eq_true rfl) hRl⟩) (x_recvD (ci := 8) hK hW hm rfl) hK hY hB hW hcs rfl hls rfl hr hdg kk
  · exact x_uR (ov := some (.int v)) (D := D) (s0 := s0) (Sc := nS) (adc := ad) (Ic := fun _ => 0) (Ac := fun _ _ => 0) (Rc := nR) (Gc := nG) (Xc := wl D S ad I A R G ++ X) (base := base) (b := b) (As := []) (rest := rest) (C := RX10) ⟨hx, hb, hml, hown, hts⟩ (k10_kind_met l D s0 h0 ad (wl D S ad I A R G ++ X) base b  v h) (va_cwA (owner := RX8) 0 hts (lw_U q1062 q1064 q1065 q1066 q99 q1067) rfl rfl rfl (va_Nw.warmD hY (h0 _ q1063)) (by decide +kernel) ⟨Nat.le_trans (Nat.le_of_ble_eq_true rfl) hRf, Nat.le_trans (Nat.le_of_ble_eq_true rfl) hRl⟩) (x_recvD (ci := 9) hK hW hm rfl) hK hY hB hW hcs rfl hls rfl hr hdg kk
  · exact x_uR (ov := some (.int v)) (D := D) (s0 := s0) (Sc := nS) (adc := ad) (Ic := fun _ => 0) (Ac := fun _ _ => 0) (Rc := nR) (Gc := nG) (Xc := wl D S ad I A R G ++ X) (base := base) (b := b) (As := []) (rest := rest) (C := RX11) ⟨hx, hb, hml, hown, hts⟩ (k11_kind_met l D s0 h0 ad (wl D S ad I A R G ++ X) base b  v h) (va_cwA (owner := RX8) 0 hts (lw_U q1062 q1064 q1077 q1078 q100 q1079) rfl rfl rfl (va_Nw.warmD hY (h0 _ q1063)) (by decide +kernel) ⟨Nat.le_trans (Nat.le_of_ble_eq_true rfl) hRf, Nat.le_trans (Nat.le_of_ble_eq_true rfl) hRl⟩) (x_recvD (ci := 10) hK hW hm rfl) hK hY hB hW hcs rfl hls rfl hr hdg kk
  · exact x_uR (ov := some (.int v)) (D := D) (s0 := s0) (Sc := nS) (adc := ad) (Ic := fun _ => 0) (Ac := fun _ _ => 0) (Rc := nR) (Gc := nG) (Xc := wl D S ad I A R G ++ X) (base := base) (b := b) (As := []) (rest := rest) (C := RX12) ⟨hx, hb, hml, hown, hts⟩ (k12_kind_met l D s0 h0 ad (wl D S ad I A R G ++ X) base b  v h) (va_cwA (owner := RX8) 0 hts (lw_U q1062 q1064 q1068 q1069 q101 q1070) rfl rfl rfl (va_Nw.warmD hY (h0 _ q1063)) (by decide +kernel) ⟨Nat.le_trans (Nat.le_of_ble_eq_true rfl) hRf, Nat.le_trans (Nat.le_of_ble_eq_true rfl) hRl⟩) (x_recvD (ci := 11) hK hW hm rfl) hK hY hB hW hcs rfl hls rfl hr hdg kk
  · exact x_uR (ov := some (.int v)) (D := D) (s0 := s0) (Sc := nS) (adc := ad) (Ic := fun _ => 0) (Ac := fun _ _ => 0) (Rc := nR) (Gc := nG) (Xc := wl D S ad I A R G ++ X) (base := base) (b := b) (As := []) (rest := rest) (C := RX13) ⟨hx, hb, hml, hown, hts⟩ (k13_kind_met l D s0 h0 ad (wl D S ad I A R G ++ X) base b  v h) (va_cwA (owner := RX8) 0 hts (lw_U q1062 q1064 q1074 q1075 q102 q1076) rfl rfl rfl (va_Nw.warmD hY (h0 _ q1063)) (by decide +kernel) ⟨Nat.le_trans (Nat.le_of_ble_eq_true rfl) hRf, Nat.le_trans (Nat.le_of_ble_eq_true rfl) hRl⟩) (x_recvD (ci := 12) hK hW hm rfl) hK hY hB hW hcs rfl hls rfl hr hdg kk
def x_status (I : Nat → Int32) (A : Nat → Nat → Int32) (R : Nat → Option Nat) (G : Nat → Nat → Option Nat) (pl n : Nat) (ks : Nat → Nat) : Option (Int32) :=
  some (I 110)
set_option maxRecDepth 100000 in
set_option maxHeartbeats 4000000 in
theorem x_status_met (l : Launch) (D : dd_) (s0 : State) (h0 : ∀ w ∈ lw_tbl, va_Nw w s0) (ad : Nat → Nat) (X : va_W) (base : Nat) (I : Nat → Int32) (A : Nat → Nat → Int32) (R : Nat → Option Nat) (G : Nat → Nat → Option Nat) (pl n : Nat) (ks : Nat → Nat) (hR : RegX D X pl n ks) (r : Int32) (hf : x_status I A R G pl n ks  = some r) : Met l yX0_status (ws_ yX0_status cX0_status 1 (some .int)) ({ frames := 1, cells := 0, slots := 0, locals := 32 }) (PcX D s0 xS ad I A R G X base [.ref (ad 199)]) (QcR (some (.int r))) 0 0 (fun _ => False) := by
  refine Met.ofW (cc := cX0_status) (maxL := 1) (ret := (some .int)) (by decide) rfl ?_
  intro p e s m args below meth c s₁ B hml hv
  obtain ⟨rfl, hK, hY, hB, hW⟩ := hv
  have hx := B.exec
  have hb := B.bytes
  have hr := B.returns
  have hts := atoms_spec (ws := (ws_ yX0_status cX0_status 1 (some .int))) B.pre
  have hts : ∀ w ∈ lw_all, w.before _ s = true := fun w h => hts w (List.mem_cons_of_mem _ h)
  have hown : s.vm.findClass RX0 = some m.cls := findClass_of_methodNamed B.named
  have hlocks := B.notSynchronized
  have hRf : 1 ≤ (headSpec (ws_ yX0_status cX0_status 1 (some .int)) ({ frames := 1, cells := 0, slots := 0, locals := 32 })).room.frames := Nat.le_refl _
  have hRl : 32 ≤ (headSpec (ws_ yX0_status cX0_status 1 (some .int)) ({ frames := 1, cells := 0, slots := 0, locals := 32 })).room.locals := Nat.le_refl _
  have hcs : 0 ≤ (headSpec (ws_ yX0_status cX0_status 1 (some .int)) ({ frames := 1, cells := 0, slots := 0, locals := 32 })).room.cells ∧ 0 ≤ (headSpec (ws_ yX0_status cX0_status 1 (some .int)) ({ frames := 1, cells := 0, slots := 0, locals := 32 })).room.slots := ⟨Nat.zero_le _, Nat.zero_le _⟩
  have hl := lv_entry ([.ref (ad 199)]) (n := 1) (Nat.le_of_ble_eq_true rfl)
  rw [lg_entry_eq]
  generalize (lg_sl ([.ref (ad 199)]) ++ List.replicate (1 - (lg_sl ([.ref (ad 199)])).length) Slot.unset).toArray = ls at hl ⊢
  have hl : lv_has ls 1 [(0, .ref (ad 199))] := hl
  have hf : (some (I 110)) = some r := hf
  refine lv_aload_n hx hb dX0_status_0 rfl (lv_at hl 0 rfl) ?_
  refine x_get (v := .int (I 110)) hx hb hts hown hK hW xO199 in_X0 rfl 10 (by decide) q234 rfl rfl dX0_status_1 ?_
  obtain rfl := so1 hf
  exact W.iret hx hb hr (fun t ht _ => ⟨rfl, ht⟩) (fun q hq => by cases hq) dX0_status_4
theorem x_status_ds : yX0_status.cls = RX0 ∧ yX0_status.cls ≠ "java/lang/invoke/MethodHandle" ∧ yX0_status.cls ≠ "java/lang/invoke/VarHandle" ∧ (parseMethodDescriptor yX0_status.desc).map (fun d => d.parameters.length) = some 0 := by decide +kernel
def x_fault (I : Nat → Int32) (A : Nat → Nat → Int32) (R : Nat → Option Nat) (G : Nat → Nat → Option Nat) (pl n : Nat) (ks : Nat → Nat) : Option (Int32) :=
  some (I 103)
set_option maxRecDepth 100000 in
set_option maxHeartbeats 4000000 in
theorem x_fault_met (l : Launch) (D : dd_) (s0 : State) (h0 : ∀ w ∈ lw_tbl, va_Nw w s0) (ad : Nat → Nat) (X : va_W) (base : Nat) (I : Nat → Int32) (A : Nat → Nat → Int32) (R : Nat → Option Nat) (G : Nat → Nat → Option Nat) (pl n : Nat) (ks : Nat → Nat) (hR : RegX D X pl n ks) (r : Int32) (hf : x_fault I A R G pl n ks  = some r) : Met l yX0_fault (ws_ yX0_fault cX0_fault 1 (some .int)) ({ frames := 1, cells := 0, slots := 0, locals := 32 }) (PcX D s0 xS ad I A R G X base [.ref (ad 199)]) (QcR (some (.int r))) 0 0 (fun _ => False) := by
  refine Met.ofW (cc := cX0_fault) (maxL := 1) (ret := (some .int)) (by decide) rfl ?_
  intro p e s m args below meth c s₁ B hml hv
  obtain ⟨rfl, hK, hY, hB, hW⟩ := hv
  have hx := B.exec
  have hb := B.bytes
  have hr := B.returns
  have hts := atoms_spec (ws := (ws_ yX0_fault cX0_fault 1 (some .int))) B.pre
  have hts : ∀ w ∈ lw_all, w.before _ s = true := fun w h => hts w (List.mem_cons_of_mem _ h)
  have hown : s.vm.findClass RX0 = some m.cls := findClass_of_methodNamed B.named
  have hlocks := B.notSynchronized
  have hRf : 1 ≤ (headSpec (ws_ yX0_fault cX0_fault 1 (some .int)) ({ frames := 1, cells := 0, slots := 0, locals := 32 })).room.frames := Nat.le_refl _
  have hRl : 32 ≤ (headSpec (ws_ yX0_fault cX0_fault 1 (some .int)) ({ frames := 1, cells := 0, slots := 0, locals := 32 })).room.locals := Nat.le_refl _
  have hcs : 0 ≤ (headSpec (ws_ yX0_fault cX0_fault 1 (some .int)) ({ frames := 1, cells := 0, slots := 0, locals := 32 })).room.cells ∧ 0 ≤ (headSpec (ws_ yX0_fault cX0_fault 1 (some .int)) ({ frames := 1, cells := 0, slots := 0, locals := 32 })).room.slots := ⟨Nat.zero_le _, Nat.zero_le _⟩
  have hl := lv_entry ([.ref (ad 199)]) (n := 1) (Nat.le_of_ble_eq_true rfl)
  rw [lg_entry_eq]
  generalize (lg_sl ([.ref (ad 199)]) ++ List.replicate (1 - (lg_sl ([.ref (ad 199)])).length) Slot.unset).toArray = ls at hl ⊢
  have hl : lv_has ls 1 [(0, .ref (ad 199))] := hl
  have hf : (some (I 103)) = some r := hf
  refine lv_aload_n hx hb dX0_fault_0 rfl (lv_at hl 0 rfl) ?_
  refine x_get (v := .int (I 103)) hx hb hts hown hK hW xO199 in_X0 rfl 3 (by decide) q227 rfl rfl dX0_fault_1 ?_
  obtain rfl := so1 hf
  exact W.iret hx hb hr (fun t ht _ => ⟨rfl, ht⟩) (fun q hq => by cases hq) dX0_fault_4
theorem x_fault_ds : yX0_fault.cls = RX0 ∧ yX0_fault.cls ≠ "java/lang/invoke/MethodHandle" ∧ yX0_fault.cls ≠ "java/lang/invoke/VarHandle" ∧ (parseMethodDescriptor yX0_fault.desc).map (fun d => d.parameters.length) = some 0 := by decide +kernel
def x_well (I : Nat → Int32) (A : Nat → Nat → Int32) (R : Nat → Option Nat) (G : Nat → Nat → Option Nat) (pl n : Nat) (ks : Nat → Nat) (a0 : Int32) : Option (Int32 × (Nat → Int32)) :=
  some (a0, upd I 110 0)
set_option maxRecDepth 100000 in
set_option maxHeartbeats 4000000 in
theorem x_well_met (l : Launch) (D : dd_) (s0 : State) (h0 : ∀ w ∈ lw_tbl, va_Nw w s0) (ad : Nat → Nat) (X : va_W) (base : Nat) (hAP : AP xS ad X base) (I : Nat → Int32) (A : Nat → Nat → Int32) (R : Nat → Option Nat) (G : Nat → Nat → Option Nat) (pl n : Nat) (ks : Nat → Nat) (hR : RegX D X pl n ks) (a0 : Int32) (r : Int32) (I1 : (Nat → Int32)) (hf : x_well I A R G pl n ks a0 = some (r, I1)) : Met l yX0_well (ws_ yX0_well cX0_well 2 (some .int)) ({ frames := 1, cells := 0, slots := 0, locals := 32 }) (PcX D s0 xS ad I A R G X base [.ref (ad 199), .int a0]) (QcX D xS ad I1 A R G X base (some (.int r))) 0 0 (upB base) := by
  refine Met.ofW (cc := cX0_well) (maxL := 2) (ret := (some .int)) (by decide) rfl ?_
  intro p e s m args below meth c s₁ B hml hv
  obtain ⟨rfl, hK, hY, hB0, hW⟩ := hv
  have hx := B.exec
  have hb := B.bytes
  have hr := B.returns
  have hts := atoms_spec (ws := (ws_ yX0_well cX0_well 2 (some .int))) B.pre
  have hts : ∀ w ∈ lw_all, w.before _ s = true := fun w h => hts w (List.mem_cons_of_mem _ h)
  have hown : s.vm.findClass RX0 = some m.cls := findClass_of_methodNamed B.named
  have hlocks := B.notSynchronized
  have hRf : 1 ≤ (headSpec (ws_ yX0_well cX0_well 2 (some .int)) ({ frames := 1, cells := 0, slots := 0, locals := 32 })).room.frames := Nat.le_refl _
  have hRl : 32 ≤ (headSpec (ws_ yX0_well cX0_well 2 (some .int)) ({ frames := 1, cells := 0, slots := 0, locals := 32 })).room.locals := Nat.le_refl _
  have hcs : 0 ≤ (headSpec (ws_ yX0_well cX0_well 2 (some .int)) ({ frames := 1, cells := 0, slots := 0, locals := 32 })).room.cells ∧ 0 ≤ (headSpec (ws_ yX0_well cX0_well 2 (some .int)) ({ frames := 1, cells := 0, slots := 0, locals := 32 })).room.slots := ⟨Nat.zero_le _, Nat.zero_le _⟩
  have hS : va_S (upB base) s.heap s.heap [] := va_S.rf
  have hl := lv_entry ([.ref (ad 199), .int a0]) (n := 2) (Nat.le_of_ble_eq_true rfl)
  rw [lg_entry_eq]
  generalize (lg_sl ([.ref (ad 199), .int a0]) ++ List.replicate (2 - (lg_sl ([.ref (ad 199), .int a0])).length) Slot.unset).toArray = ls at hl ⊢
  have hl : lv_has ls 2 [(0, .ref (ad 199)), (1, .int a0)] := hl
  have hf : (some (a0, upd I 110 0)) = some (r, I1) := hf
  refine lv_aload_n hx hb dX0_well_0 rfl (lv_at hl 0 rfl) ?_
  refine lv_iconst (v := 0) hx hb dX0_well_1 (by decide) ?_
  refine x_putI hx hb hts hown hK xwf hAP hW hS xO199 in_X0 tyX0 tyX0_ok nmX0 rfl 10 110 (by decide) rfl q234 rfl rfl (by decide +kernel) dX0_well_2 (fun H locs hW hS => ?_)
  refine lv_iload_n hx hb dX0_well_5 rfl (lv_at hl 1 rfl) ?_
  obtain ⟨rfl, rfl⟩ := so2 hf
  exact W.iret hx hb hr (fun t ht _ => ⟨rfl, by rw [ht]; exact hW, hS.F ht⟩) hS.2.2 dX0_well_6
theorem x_well_ds : yX0_well.cls = RX0 ∧ yX0_well.cls ≠ "java/lang/invoke/MethodHandle" ∧ yX0_well.cls ≠ "java/lang/invoke/VarHandle" ∧ (parseMethodDescriptor yX0_well.desc).map (fun d => d.parameters.length) = some 1 := by decide +kernel
def x_isParish (I : Nat → Int32) (A : Nat → Nat → Int32) (R : Nat → Option Nat) (G : Nat → Nat → Option Nat) (pl n : Nat) (ks : Nat → Nat) : Option (Int32) :=
  ob1 (p_many (sh 200 I) (sh 200 A) (sh 200 R) pl n ks) fun (v1 : Int32) =>
  ob1 (if v1 ≤ 0 then ((some 0 : Option (Int32))) else ((some 1 : Option (Int32)))) fun (v2 : Int32) =>
  zO v2
set_option maxRecDepth 100000 in
set_option maxHeartbeats 4000000 in
theorem x_isParish_met (l : Launch) (D : dd_) (s0 : State) (h0 : ∀ w ∈ lw_tbl, va_Nw w s0) (ad : Nat → Nat) (X : va_W) (base : Nat) (I : Nat → Int32) (A : Nat → Nat → Int32) (R : Nat → Option Nat) (G : Nat → Nat → Option Nat) (pl n : Nat) (ks : Nat → Nat) (hR : RegX D X pl n ks) (r : Int32) (hf : x_isParish I A R G pl n ks  = some r) : Met l yX0_isParish (ws_ yX0_isParish cX0_isParish 1 (some .boolean)) ({ frames := 3, cells := 0, slots := 0, locals := 72 }) (PcX D s0 xS ad I A R G X base [.ref (ad 199)]) (QcR (some (.int r))) 0 0 (fun _ => False) := by
  refine Met.ofW (cc := cX0_isParish) (maxL := 1) (ret := (some .boolean)) (by decide) rfl ?_
  intro p e s m args below meth c s₁ B hml hv
  obtain ⟨rfl, hK, hY, hB, hW⟩ := hv
  have hx := B.exec
  have hb := B.bytes
  have hr := B.returns
  have hts := atoms_spec (ws := (ws_ yX0_isParish cX0_isParish 1 (some .boolean))) B.pre
  have hts : ∀ w ∈ lw_all, w.before _ s = true := fun w h => hts w (List.mem_cons_of_mem _ h)
  have hown : s.vm.findClass RX0 = some m.cls := findClass_of_methodNamed B.named
  have hlocks := B.notSynchronized
  have hRf : 3 ≤ (headSpec (ws_ yX0_isParish cX0_isParish 1 (some .boolean)) ({ frames := 3, cells := 0, slots := 0, locals := 72 })).room.frames := Nat.le_refl _
  have hRl : 72 ≤ (headSpec (ws_ yX0_isParish cX0_isParish 1 (some .boolean)) ({ frames := 3, cells := 0, slots := 0, locals := 72 })).room.locals := Nat.le_refl _
  have hcs : 0 ≤ (headSpec (ws_ yX0_isParish cX0_isParish 1 (some .boolean)) ({ frames := 3, cells := 0, slots := 0, locals := 72 })).room.cells ∧ 0 ≤ (headSpec (ws_ yX0_isParish cX0_isParish 1 (some .boolean)) ({ frames := 3, cells := 0, slots := 0, locals := 72 })).room.slots := ⟨Nat.zero_le _, Nat.zero_le _⟩
  have hl := lv_entry ([.ref (ad 199)]) (n := 1) (Nat.le_of_ble_eq_true rfl)
  rw [lg_entry_eq]
  generalize (lg_sl ([.ref (ad 199)]) ++ List.replicate (1 - (lg_sl ([.ref (ad 199)])).length) Slot.unset).toArray = ls at hl ⊢
  have hl : lv_has ls 1 [(0, .ref (ad 199))] := hl
  have hf : (ob1 (p_many (sh 200 I) (sh 200 A) (sh 200 R) pl n ks) fun (v1 : Int32) =>
    ob1 (if v1 ≤ 0 then ((some 0 : Option (Int32))) else ((some 1 : Option (Int32)))) fun (v2 : Int32) =>
    zO v2) = some r := hf
  refine lv_aload_n hx hb dX0_isParish_0 rfl (lv_at hl 0 rfl) ?_
  refine x_get (v := .ref (ad 299)) hx hb hts hown hK hW xO199 in_X0 rfl 4 (by decide) q228 rfl rfl dX0_isParish_1 ?_
  obtain ⟨v1, h1, hf⟩ := ob1_e hf
  refine x_vR (ov := some (.int v1)) (D := D) (s0 := s0) (Sc := pS) (adc := (sh 200 ad)) (Ic := (sh 200 I)) (Ac := (sh 200 A)) (Rc := (sh 200 R)) (Gc := nG) (Xc := (xr200 D ad I A R G X)) (base := base) (As := []) (rest := []) (b := ad 299) (C := RX1) ⟨hx, hb, hml, hown, hts⟩ (p_many_met l D s0 h0 (sh 200 ad) (xr200 D ad I A R G X) base (sh 200 I) (sh 200 A) (sh 200 R) pl n ks (xrg200 hR)  v1 h1) (g_cwV 0 hts (lw_V q747 q602 q603 q77 q604) rfl rfl p_many_ds ⟨Nat.le_trans (Nat.le_of_ble_eq_true rfl) hRf, Nat.le_trans (Nat.le_of_ble_eq_true rfl) hRl⟩) (x_recv hK hW xO299 rfl) hK hY hB (xw200 hW) hcs rfl hl.1 rfl (Nat.le_of_ble_eq_true rfl) dX0_isParish_4 ?_
  obtain ⟨v2, hm2, hf⟩ := ob1_e hf
  refine w_cutL (nL := 1) (L := []) (pcj := 15) (st := [.int v2]) (fun ls hl => ?_) (fun K2 => ?_)
  · obtain ⟨hz, rfl⟩ := zO_e hf
    exact W.zret hx hb hr (nar_z hz) (fun t ht _ => ⟨rfl, ht⟩) (fun q hq => by cases hq) dX0_isParish_15
  · refine lv_if_le (tgt := 14) hx hb dX0_isParish_7 (by decide) (fun c3 => ?_) (fun c3 => ?_)
    · rw [if_pos c3] at hm2
      refine lv_iconst (v := 0) hx hb dX0_isParish_14 (by decide) ?_
      obtain rfl := so1 hm2
      exact K2 ls (lv_sub hl [] rfl)
    · rw [if_neg c3] at hm2
      refine lv_iconst (v := 1) hx hb dX0_isParish_10 (by decide) ?_
      refine lv_goto (tgt := 15) hx hb dX0_isParish_11 (by decide) ?_
      obtain rfl := so1 hm2
      exact K2 ls (lv_sub hl [] rfl)
theorem x_isParish_ds : yX0_isParish.cls = RX0 ∧ yX0_isParish.cls ≠ "java/lang/invoke/MethodHandle" ∧ yX0_isParish.cls ≠ "java/lang/invoke/VarHandle" ∧ (parseMethodDescriptor yX0_isParish.desc).map (fun d => d.parameters.length) = some 0 := by decide +kernel
def x_isPerson (I : Nat → Int32) (A : Nat → Nat → Int32) (R : Nat → Option Nat) (G : Nat → Nat → Option Nat) (pl n : Nat) (ks : Nat → Nat) (a0 : Int32) : Option (Int32) :=
  ob1 (p_many (sh 200 I) (sh 200 A) (sh 200 R) pl n ks) fun (v1 : Int32) =>
  ob1 (x_isIn a0.toInt64 0 ((v1 - 1).toInt64)) fun (v2 : Int32) =>
  zO v2
set_option maxRecDepth 100000 in
set_option maxHeartbeats 4000000 in
theorem x_isPerson_met (l : Launch) (D : dd_) (s0 : State) (h0 : ∀ w ∈ lw_tbl, va_Nw w s0) (ad : Nat → Nat) (X : va_W) (base : Nat) (I : Nat → Int32) (A : Nat → Nat → Int32) (R : Nat → Option Nat) (G : Nat → Nat → Option Nat) (pl n : Nat) (ks : Nat → Nat) (hR : RegX D X pl n ks) (a0 : Int32) (r : Int32) (hf : x_isPerson I A R G pl n ks a0 = some r) : Met l yX0_isPerson (ws_ yX0_isPerson cX0_isPerson 2 (some .boolean)) ({ frames := 3, cells := 0, slots := 0, locals := 72 }) (PcX D s0 xS ad I A R G X base [.ref (ad 199), .int a0]) (QcR (some (.int r))) 0 0 (fun _ => False) := by
  refine Met.ofW (cc := cX0_isPerson) (maxL := 2) (ret := (some .boolean)) (by decide) rfl ?_
  intro p e s m args below meth c s₁ B hml hv
  obtain ⟨rfl, hK, hY, hB, hW⟩ := hv
  have hx := B.exec
  have hb := B.bytes
  have hr := B.returns
  have hts := atoms_spec (ws := (ws_ yX0_isPerson cX0_isPerson 2 (some .boolean))) B.pre
  have hts : ∀ w ∈ lw_all, w.before _ s = true := fun w h => hts w (List.mem_cons_of_mem _ h)
  have hown : s.vm.findClass RX0 = some m.cls := findClass_of_methodNamed B.named
  have hlocks := B.notSynchronized
  have hRf : 3 ≤ (headSpec (ws_ yX0_isPerson cX0_isPerson 2 (some .boolean)) ({ frames := 3, cells := 0, slots := 0, locals := 72 })).room.frames := Nat.le_refl _
  have hRl : 72 ≤ (headSpec (ws_ yX0_isPerson cX0_isPerson 2 (some .boolean)) ({ frames := 3, cells := 0, slots := 0, locals := 72 })).room.locals := Nat.le_refl _
  have hcs : 0 ≤ (headSpec (ws_ yX0_isPerson cX0_isPerson 2 (some .boolean)) ({ frames := 3, cells := 0, slots := 0, locals := 72 })).room.cells ∧ 0 ≤ (headSpec (ws_ yX0_isPerson cX0_isPerson 2 (some .boolean)) ({ frames := 3, cells := 0, slots := 0, locals := 72 })).room.slots := ⟨Nat.zero_le _, Nat.zero_le _⟩
  have hl := lv_entry ([.ref (ad 199), .int a0]) (n := 2) (Nat.le_of_ble_eq_true rfl)
  rw [lg_entry_eq]
  generalize (lg_sl ([.ref (ad 199), .int a0]) ++ List.replicate (2 - (lg_sl ([.ref (ad 199), .int a0])).length) Slot.unset).toArray = ls at hl ⊢
  have hl : lv_has ls 2 [(0, .ref (ad 199)), (1, .int a0)] := hl
  have hf : (ob1 (p_many (sh 200 I) (sh 200 A) (sh 200 R) pl n ks) fun (v1 : Int32) =>
    ob1 (x_isIn a0.toInt64 0 ((v1 - 1).toInt64)) fun (v2 : Int32) =>
    zO v2) = some r := hf
  refine lv_iload_n hx hb dX0_isPerson_0 rfl (lv_at hl 1 rfl) ?_
  refine lv_i2l (v := a0.toInt64) hx hb dX0_isPerson_1 rfl ?_
  refine lv_lconst (v := 0) hx hb dX0_isPerson_2 (by decide) ?_
  refine lv_aload_n hx hb dX0_isPerson_3 rfl (lv_at hl 0 rfl) ?_
  refine x_get (v := .ref (ad 299)) hx hb hts hown hK hW xO199 in_X0 rfl 4 (by decide) q228 rfl rfl dX0_isPerson_4 ?_
  obtain ⟨v1, h1, hf⟩ := ob1_e hf
  refine x_vR (ov := some (.int v1)) (D := D) (s0 := s0) (Sc := pS) (adc := (sh 200 ad)) (Ic := (sh 200 I)) (Ac := (sh 200 A)) (Rc := (sh 200 R)) (Gc := nG) (Xc := (xr200 D ad I A R G X)) (base := base) (As := []) (rest := [.long 0, .long a0.toInt64]) (b := ad 299) (C := RX1) ⟨hx, hb, hml, hown, hts⟩ (p_many_met l D s0 h0 (sh 200 ad) (xr200 D ad I A R G X) base (sh 200 I) (sh 200 A) (sh 200 R) pl n ks (xrg200 hR)  v1 h1) (g_cwV 0 hts (lw_V q747 q602 q603 q77 q604) rfl rfl p_many_ds ⟨Nat.le_trans (Nat.le_of_ble_eq_true rfl) hRf, Nat.le_trans (Nat.le_of_ble_eq_true rfl) hRl⟩) (x_recv hK hW xO299 rfl) hK hY hB (xw200 hW) hcs rfl hl.1 rfl (Nat.le_of_ble_eq_true rfl) dX0_isPerson_7 ?_
  refine lv_iconst (v := 1) hx hb dX0_isPerson_10 (by decide) ?_
  refine lv_isub hx hb dX0_isPerson_11 ?_
  refine lv_i2l (v := (v1 - 1).toInt64) hx hb dX0_isPerson_12 rfl ?_
  obtain ⟨v2, h2, hf⟩ := ob1_e hf
  refine x_sR (ov := some (.int v2)) (D := D) (s0 := s0) (Sc := nS) (adc := ad) (Ic := (fun _ => 0)) (Ac := (fun _ _ => 0)) (Rc := nR) (Gc := nG) (Xc := []) (base := base) (As := [.long a0.toInt64, .long 0, .long ((v1 - 1).toInt64)]) (rest := []) ⟨hx, hb, hml, hown, hts⟩ (x_isIn_met l D s0 h0 ad [] base a0.toInt64 0 ((v1 - 1).toInt64) v2 h2) (va_cwS 3 hts (lw_S q285 q286 q76 q287) rfl rfl rfl x_isIn_ds.2 ⟨Nat.le_trans (Nat.le_of_ble_eq_true rfl) hRf, Nat.le_trans (Nat.le_of_ble_eq_true rfl) hRl⟩) hK hY hB WX_nil hcs rfl hl.1 rfl (Nat.le_of_ble_eq_true rfl) dX0_isPerson_13 ?_
  obtain ⟨hz, rfl⟩ := zO_e hf
  exact W.zret hx hb hr (nar_z hz) (fun t ht _ => ⟨rfl, ht⟩) (fun q hq => by cases hq) dX0_isPerson_16
theorem x_isPerson_ds : yX0_isPerson.cls = RX0 ∧ yX0_isPerson.cls ≠ "java/lang/invoke/MethodHandle" ∧ yX0_isPerson.cls ≠ "java/lang/invoke/VarHandle" ∧ (parseMethodDescriptor yX0_isPerson.desc).map (fun d => d.parameters.length) = some 1 := by decide +kernel
def x_isPromise (I : Nat → Int32) (A : Nat → Nat → Int32) (R : Nat → Option Nat) (G : Nat → Nat → Option Nat) (pl n : Nat) (ks : Nat → Nat) (a0 : Int32) : Option (Int32) :=
  ob1 (x_isIn a0.toInt64 0 (((I 204) - 1).toInt64)) fun (v1 : Int32) =>
  zO v1
set_option maxRecDepth 100000 in
set_option maxHeartbeats 4000000 in
theorem x_isPromise_met (l : Launch) (D : dd_) (s0 : State) (h0 : ∀ w ∈ lw_tbl, va_Nw w s0) (ad : Nat → Nat) (X : va_W) (base : Nat) (I : Nat → Int32) (A : Nat → Nat → Int32) (R : Nat → Option Nat) (G : Nat → Nat → Option Nat) (pl n : Nat) (ks : Nat → Nat) (hR : RegX D X pl n ks) (a0 : Int32) (r : Int32) (hf : x_isPromise I A R G pl n ks a0 = some r) : Met l yX0_isPromise (ws_ yX0_isPromise cX0_isPromise 2 (some .boolean)) ({ frames := 2, cells := 0, slots := 0, locals := 57 }) (PcX D s0 xS ad I A R G X base [.ref (ad 199), .int a0]) (QcR (some (.int r))) 0 0 (fun _ => False) := by
  refine Met.ofW (cc := cX0_isPromise) (maxL := 2) (ret := (some .boolean)) (by decide) rfl ?_
  intro p e s m args below meth c s₁ B hml hv
  obtain ⟨rfl, hK, hY, hB, hW⟩ := hv
  have hx := B.exec
  have hb := B.bytes
  have hr := B.returns
  have hts := atoms_spec (ws := (ws_ yX0_isPromise cX0_isPromise 2 (some .boolean))) B.pre
  have hts : ∀ w ∈ lw_all, w.before _ s = true := fun w h => hts w (List.mem_cons_of_mem _ h)
  have hown : s.vm.findClass RX0 = some m.cls := findClass_of_methodNamed B.named
  have hlocks := B.notSynchronized
  have hRf : 2 ≤ (headSpec (ws_ yX0_isPromise cX0_isPromise 2 (some .boolean)) ({ frames := 2, cells := 0, slots := 0, locals := 57 })).room.frames := Nat.le_refl _
  have hRl : 57 ≤ (headSpec (ws_ yX0_isPromise cX0_isPromise 2 (some .boolean)) ({ frames := 2, cells := 0, slots := 0, locals := 57 })).room.locals := Nat.le_refl _
  have hcs : 0 ≤ (headSpec (ws_ yX0_isPromise cX0_isPromise 2 (some .boolean)) ({ frames := 2, cells := 0, slots := 0, locals := 57 })).room.cells ∧ 0 ≤ (headSpec (ws_ yX0_isPromise cX0_isPromise 2 (some .boolean)) ({ frames := 2, cells := 0, slots := 0, locals := 57 })).room.slots := ⟨Nat.zero_le _, Nat.zero_le _⟩
  have hl := lv_entry ([.ref (ad 199), .int a0]) (n := 2) (Nat.le_of_ble_eq_true rfl)
  rw [lg_entry_eq]
  generalize (lg_sl ([.ref (ad 199), .int a0]) ++ List.replicate (2 - (lg_sl ([.ref (ad 199), .int a0])).length) Slot.unset).toArray = ls at hl ⊢
  have hl : lv_has ls 2 [(0, .ref (ad 199)), (1, .int a0)] := hl
  have hf : (ob1 (x_isIn a0.toInt64 0 (((I 204) - 1).toInt64)) fun (v1 : Int32) =>
    zO v1) = some r := hf
  refine lv_iload_n hx hb dX0_isPromise_0 rfl (lv_at hl 1 rfl) ?_
  refine lv_i2l (v := a0.toInt64) hx hb dX0_isPromise_1 rfl ?_
  refine lv_lconst (v := 0) hx hb dX0_isPromise_2 (by decide) ?_
  refine lv_aload_n hx hb dX0_isPromise_3 rfl (lv_at hl 0 rfl) ?_
  refine x_get (v := .ref (ad 299)) hx hb hts hown hK hW xO199 in_X0 rfl 4 (by decide) q228 rfl rfl dX0_isPromise_4 ?_
  refine x_get (v := .int (I 204)) hx hb hts hown hK hW xO299 in_X1 rfl 4 (by decide) q168 rfl rfl dX0_isPromise_7 ?_
  refine lv_iconst (v := 1) hx hb dX0_isPromise_10 (by decide) ?_
  refine lv_isub hx hb dX0_isPromise_11 ?_
  refine lv_i2l (v := ((I 204) - 1).toInt64) hx hb dX0_isPromise_12 rfl ?_
  obtain ⟨v1, h1, hf⟩ := ob1_e hf
  refine x_sR (ov := some (.int v1)) (D := D) (s0 := s0) (Sc := nS) (adc := ad) (Ic := (fun _ => 0)) (Ac := (fun _ _ => 0)) (Rc := nR) (Gc := nG) (Xc := []) (base := base) (As := [.long a0.toInt64, .long 0, .long (((I 204) - 1).toInt64)]) (rest := []) ⟨hx, hb, hml, hown, hts⟩ (x_isIn_met l D s0 h0 ad [] base a0.toInt64 0 (((I 204) - 1).toInt64) v1 h1) (va_cwS 3 hts (lw_S q285 q286 q76 q287) rfl rfl rfl x_isIn_ds.2 ⟨Nat.le_trans (Nat.le_of_ble_eq_true rfl) hRf, Nat.le_trans (Nat.le_of_ble_eq_true rfl) hRl⟩) hK hY hB WX_nil hcs rfl hl.1 rfl (Nat.le_of_ble_eq_true rfl) dX0_isPromise_13 ?_
  obtain ⟨hz, rfl⟩ := zO_e hf
  exact W.zret hx hb hr (nar_z hz) (fun t ht _ => ⟨rfl, ht⟩) (fun q hq => by cases hq) dX0_isPromise_16
theorem x_isPromise_ds : yX0_isPromise.cls = RX0 ∧ yX0_isPromise.cls ≠ "java/lang/invoke/MethodHandle" ∧ yX0_isPromise.cls ≠ "java/lang/invoke/VarHandle" ∧ (parseMethodDescriptor yX0_isPromise.desc).map (fun d => d.parameters.length) = some 1 := by decide +kernel
def x_feed (I : Nat → Int32) (A : Nat → Nat → Int32) (R : Nat → Option Nat) (G : Nat → Nat → Option Nat) (pl n : Nat) (ks : Nat → Nat) (a0 : Int32) : Option (Int32 × (Nat → Int32) × (Nat → Nat → Int32)) :=
  ob1 (x_isIn a0.toInt64 0 255) fun (v1 : Int32) =>
  if v1 = 0 then (some ((-1000001), I, A)) else (if (I 102) = 120 then (some ((-1000003), I, A)) else (ob1 (stO (A 101) 120 (I 102) (vp_nar .byte a0.toInt8.toInt32)) fun (f4 : Nat → Int32) =>
      some ((upd I 102 ((I 102) + 1)) 102, upd I 102 ((I 102) + 1), va_up A 101 f4)))
set_option maxRecDepth 100000 in
set_option maxHeartbeats 4000000 in
theorem x_feed_met (l : Launch) (D : dd_) (s0 : State) (h0 : ∀ w ∈ lw_tbl, va_Nw w s0) (ad : Nat → Nat) (X : va_W) (base : Nat) (hAP : AP xS ad X base) (I : Nat → Int32) (A : Nat → Nat → Int32) (R : Nat → Option Nat) (G : Nat → Nat → Option Nat) (pl n : Nat) (ks : Nat → Nat) (hR : RegX D X pl n ks) (a0 : Int32) (r : Int32) (I1 : (Nat → Int32)) (A1 : (Nat → Nat → Int32)) (hf : x_feed I A R G pl n ks a0 = some (r, I1, A1)) : Met l yX0_feed (ws_ yX0_feed cX0_feed 2 (some .int)) ({ frames := 2, cells := 0, slots := 0, locals := 57 }) (PcX D s0 xS ad I A R G X base [.ref (ad 199), .int a0]) (QcX D xS ad I1 A1 R G X base (some (.int r))) 0 0 (upB base) := by
  refine Met.ofW (cc := cX0_feed) (maxL := 2) (ret := (some .int)) (by decide) rfl ?_
  intro p e s m args below meth c s₁ B hml hv
  obtain ⟨rfl, hK, hY, hB0, hW⟩ := hv
  have hx := B.exec
  have hb := B.bytes
  have hr := B.returns
  have hts := atoms_spec (ws := (ws_ yX0_feed cX0_feed 2 (some .int))) B.pre
  have hts : ∀ w ∈ lw_all, w.before _ s = true := fun w h => hts w (List.mem_cons_of_mem _ h)
  have hown : s.vm.findClass RX0 = some m.cls := findClass_of_methodNamed B.named
  have hlocks := B.notSynchronized
  have hRf : 2 ≤ (headSpec (ws_ yX0_feed cX0_feed 2 (some .int)) ({ frames := 2, cells := 0, slots := 0, locals := 57 })).room.frames := Nat.le_refl _
  have hRl : 57 ≤ (headSpec (ws_ yX0_feed cX0_feed 2 (some .int)) ({ frames := 2, cells := 0, slots := 0, locals := 57 })).room.locals := Nat.le_refl _
  have hcs : 0 ≤ (headSpec (ws_ yX0_feed cX0_feed 2 (some .int)) ({ frames := 2, cells := 0, slots := 0, locals := 57 })).room.cells ∧ 0 ≤ (headSpec (ws_ yX0_feed cX0_feed 2 (some .int)) ({ frames := 2, cells := 0, slots := 0, locals := 57 })).room.slots := ⟨Nat.zero_le _, Nat.zero_le _⟩
  have hS : va_S (upB base) s.heap s.heap [] := va_S.rf
  have hl := lv_entry ([.ref (ad 199), .int a0]) (n := 2) (Nat.le_of_ble_eq_true rfl)
  rw [lg_entry_eq]
  generalize (lg_sl ([.ref (ad 199), .int a0]) ++ List.replicate (2 - (lg_sl ([.ref (ad 199), .int a0])).length) Slot.unset).toArray = ls at hl ⊢
  have hl : lv_has ls 2 [(0, .ref (ad 199)), (1, .int a0)] := hl
  have hf : (ob1 (x_isIn a0.toInt64 0 255) fun (v1 : Int32) =>
    if v1 = 0 then (some ((-1000001), I, A)) else (if (I 102) = 120 then (some ((-1000003), I, A)) else (ob1 (stO (A 101) 120 (I 102) (vp_nar .byte a0.toInt8.toInt32)) fun (f4 : Nat → Int32) =>
        some ((upd I 102 ((I 102) + 1)) 102, upd I 102 ((I 102) + 1), va_up A 101 f4)))) = some (r, I1, A1) := hf
  refine lv_iload_n hx hb dX0_feed_0 rfl (lv_at hl 1 rfl) ?_
  refine lv_i2l (v := a0.toInt64) hx hb dX0_feed_1 rfl ?_
  refine lv_lconst (v := 0) hx hb dX0_feed_2 (by decide) ?_
  refine lv_ldc2 (v := 255) hx hb hown (hts _ q442) dX0_feed_3 ?_
  obtain ⟨v1, h1, hf⟩ := ob1_e hf
  refine x_sR (ov := some (.int v1)) (D := D) (s0 := s0) (Sc := nS) (adc := ad) (Ic := (fun _ => 0)) (Ac := (fun _ _ => 0)) (Rc := nR) (Gc := nG) (Xc := []) (base := base) (As := [.long a0.toInt64, .long 0, .long 255]) (rest := []) ⟨hx, hb, hml, hown, hts⟩ (x_isIn_met l D s0 h0 ad [] base a0.toInt64 0 255 v1 h1) (va_cwS 3 hts (lw_S q285 q286 q76 q287) rfl rfl rfl x_isIn_ds.2 ⟨Nat.le_trans (Nat.le_of_ble_eq_true rfl) hRf, Nat.le_trans (Nat.le_of_ble_eq_true rfl) hRl⟩) hK hY (Nat.le_trans hB0 hS.1) WX_nil hcs rfl hl.1 rfl (Nat.le_of_ble_eq_true rfl) dX0_feed_6 ?_
  refine lv_if_ne (tgt := 15) hx hb dX0_feed_9 (by decide) (fun c2 => ?_) (fun c2 => ?_)
  · rw [if_neg c2] at hf
    refine lv_aload_n hx hb dX0_feed_15 rfl (lv_at hl 0 rfl) ?_
    refine x_get (v := .int (I 102)) hx hb hts hown hK hW xO199 in_X0 rfl 2 (by decide) q226 rfl rfl dX0_feed_16 ?_
    refine lv_bipush (v := 120) hx hb dX0_feed_19 (by decide) ?_
    refine lv_icmp_ne (tgt := 27) hx hb dX0_feed_21 (by decide) (fun c3 => ?_) (fun c3 => ?_)
    · rw [if_neg c3] at hf
      refine lv_aload_n hx hb dX0_feed_27 rfl (lv_at hl 0 rfl) ?_
      refine x_get (v := .ref (ad 101)) hx hb hts hown hK hW xO199 in_X0 rfl 1 (by decide) q225 rfl rfl dX0_feed_28 ?_
      refine lv_aload_n hx hb dX0_feed_31 rfl (lv_at hl 0 rfl) ?_
      refine lv_dup hx hb dX0_feed_32 rfl ?_
      refine x_get (v := .int (I 102)) hx hb hts hown hK hW xO199 in_X0 rfl 2 (by decide) q226 rfl rfl dX0_feed_33 ?_
      refine lv_dup_x1 hx hb dX0_feed_36 rfl rfl ?_
      refine lv_iconst (v := 1) hx hb dX0_feed_37 (by decide) ?_
      refine lv_iadd hx hb dX0_feed_38 ?_
      refine x_putI hx hb hts hown hK xwf hAP hW hS xO199 in_X0 tyX0 tyX0_ok nmX0 rfl 2 102 (by decide) rfl q226 rfl rfl (by decide +kernel) dX0_feed_39 (fun H locs hW hS => ?_)
      refine lv_iload_n hx hb dX0_feed_42 rfl (lv_at hl 1 rfl) ?_
      refine lv_i2b (v := a0.toInt8.toInt32) hx hb dX0_feed_43 rfl ?_
      obtain ⟨f4, hf4, hf⟩ := ob1_e hf
      refine x_bast hx hb hK xwf hAP hW hS xA101 hf4 dX0_feed_44 (fun H locs hW hS => ?_)
      refine lv_aload_n hx hb dX0_feed_45 rfl (lv_at hl 0 rfl) ?_
      refine x_get (v := .int ((upd I 102 ((I 102) + 1)) 102)) hx hb hts hown hK hW xO199 in_X0 rfl 2 (by decide) q226 rfl rfl dX0_feed_46 ?_
      obtain ⟨rfl, rfl, rfl⟩ := so3 hf
      exact W.iret hx hb hr (fun t ht _ => ⟨rfl, by rw [ht]; exact hW, hS.F ht⟩) hS.2.2 dX0_feed_49
    · rw [if_pos c3] at hf
      refine lv_ldc (v := (-1000003)) hx hb hown (hts _ q443) dX0_feed_24 ?_
      obtain ⟨rfl, rfl, rfl⟩ := so3 hf
      exact W.iret hx hb hr (fun t ht _ => ⟨rfl, by rw [ht]; exact hW, hS.F ht⟩) hS.2.2 dX0_feed_26
  · rw [if_pos c2] at hf
    refine lv_ldc (v := (-1000001)) hx hb hown (hts _ q289) dX0_feed_12 ?_
    obtain ⟨rfl, rfl, rfl⟩ := so3 hf
    exact W.iret hx hb hr (fun t ht _ => ⟨rfl, by rw [ht]; exact hW, hS.F ht⟩) hS.2.2 dX0_feed_14
theorem x_feed_ds : yX0_feed.cls = RX0 ∧ yX0_feed.cls ≠ "java/lang/invoke/MethodHandle" ∧ yX0_feed.cls ≠ "java/lang/invoke/VarHandle" ∧ (parseMethodDescriptor yX0_feed.desc).map (fun d => d.parameters.length) = some 1 := by decide +kernel
def x_person (I : Nat → Int32) (A : Nat → Nat → Int32) (R : Nat → Option Nat) (G : Nat → Nat → Option Nat) (pl n : Nat) (ks : Nat → Nat) (a0 : Int32) (a1 : Int32) : Option (Int32) :=
  ob1 (x_isPerson I A R G pl n ks a0) fun (v1 : Int32) =>
  if v1 = 0 then (some (-1000001)) else (if a1 = 0 then (ob1 (ldO (A 202) 5 a0) fun (v4 : Int32) =>
      some v4) else if a1 = 1 then (ob1 (ldO (A 203) 5 a0) fun (v6 : Int32) =>
      some v6) else if a1 = 2 then (ob1 (p_load (sh 200 I) (sh 200 A) (sh 200 R) pl n ks a0) fun (v8 : Int32) =>
      some v8) else if a1 = 3 then (ob1 (p_crushed (sh 200 I) (sh 200 A) (sh 200 R) pl n ks) fun (v10 : Int32) =>
      some ((v10 >>> (a0 &&& 31)) &&& 1)) else (some (-1000001)))
set_option maxRecDepth 100000 in
set_option maxHeartbeats 4000000 in
theorem x_person_met (l : Launch) (D : dd_) (s0 : State) (h0 : ∀ w ∈ lw_tbl, va_Nw w s0) (ad : Nat → Nat) (X : va_W) (base : Nat) (I : Nat → Int32) (A : Nat → Nat → Int32) (R : Nat → Option Nat) (G : Nat → Nat → Option Nat) (pl n : Nat) (ks : Nat → Nat) (hR : RegX D X pl n ks) (a0 : Int32) (a1 : Int32) (r : Int32) (hf : x_person I A R G pl n ks a0 a1 = some r) : Met l yX0_person (ws_ yX0_person cX0_person 3 (some .int)) ({ frames := 8, cells := 0, slots := 0, locals := 184 }) (PcX D s0 xS ad I A R G X base [.ref (ad 199), .int a0, .int a1]) (QcR (some (.int r))) 0 0 (fun _ => False) := by
  refine Met.ofW (cc := cX0_person) (maxL := 3) (ret := (some .int)) (by decide) rfl ?_
  intro p e s m args below meth c s₁ B hml hv
  obtain ⟨rfl, hK, hY, hB, hW⟩ := hv
  have hx := B.exec
  have hb := B.bytes
  have hr := B.returns
  have hts := atoms_spec (ws := (ws_ yX0_person cX0_person 3 (some .int))) B.pre
  have hts : ∀ w ∈ lw_all, w.before _ s = true := fun w h => hts w (List.mem_cons_of_mem _ h)
  have hown : s.vm.findClass RX0 = some m.cls := findClass_of_methodNamed B.named
  have hlocks := B.notSynchronized
  have hRf : 8 ≤ (headSpec (ws_ yX0_person cX0_person 3 (some .int)) ({ frames := 8, cells := 0, slots := 0, locals := 184 })).room.frames := Nat.le_refl _
  have hRl : 184 ≤ (headSpec (ws_ yX0_person cX0_person 3 (some .int)) ({ frames := 8, cells := 0, slots := 0, locals := 184 })).room.locals := Nat.le_refl _
  have hcs : 0 ≤ (headSpec (ws_ yX0_person cX0_person 3 (some .int)) ({ frames := 8, cells := 0, slots := 0, locals := 184 })).room.cells ∧ 0 ≤ (headSpec (ws_ yX0_person cX0_person 3 (some .int)) ({ frames := 8, cells := 0, slots := 0, locals := 184 })).room.slots := ⟨Nat.zero_le _, Nat.zero_le _⟩
  have hl := lv_entry ([.ref (ad 199), .int a0, .int a1]) (n := 3) (Nat.le_of_ble_eq_true rfl)
  rw [lg_entry_eq]
  generalize (lg_sl ([.ref (ad 199), .int a0, .int a1]) ++ List.replicate (3 - (lg_sl ([.ref (ad 199), .int a0, .int a1])).length) Slot.unset).toArray = ls at hl ⊢
  have hl : lv_has ls 3 [(0, .ref (ad 199)), (1, .int a0), (2, .int a1)] := hl
  have hf : (ob1 (x_isPerson I A R G pl n ks a0) fun (v1 : Int32) =>
    if v1 = 0 then (some (-1000001)) else (if a1 = 0 then (ob1 (ldO (A 202) 5 a0) fun (v4 : Int32) =>
        some v4) else if a1 = 1 then (ob1 (ldO (A 203) 5 a0) fun (v6 : Int32) =>
        some v6) else if a1 = 2 then (ob1 (p_load (sh 200 I) (sh 200 A) (sh 200 R) pl n ks a0) fun (v8 : Int32) =>
        some v8) else if a1 = 3 then (ob1 (p_crushed (sh 200 I) (sh 200 A) (sh 200 R) pl n ks) fun (v10 : Int32) =>
        some ((v10 >>> (a0 &&& 31)) &&& 1)) else (some (-1000001)))) = some r := hf
  refine lv_aload_n hx hb dX0_person_0 rfl (lv_at hl 0 rfl) ?_
  refine lv_iload_n hx hb dX0_person_1 rfl (lv_at hl 1 rfl) ?_
  obtain ⟨v1, h1, hf⟩ := ob1_e hf
  refine x_vR (ov := some (.int v1)) (D := D) (s0 := s0) (Sc := xS) (adc := ad) (Ic := I) (Ac := A) (Rc := R) (Gc := G) (Xc := X) (base := base) (As := [.int a0]) (rest := []) (b := ad 199) (C := RX0) ⟨hx, hb, hml, hown, hts⟩ (x_isPerson_met l D s0 h0 ad X base I A R G pl n ks hR a0 v1 h1) (g_cwV 1 hts (lw_V q761 q763 qs18 q76 q764) rfl rfl x_isPerson_ds ⟨Nat.le_trans (Nat.le_of_ble_eq_true rfl) hRf, Nat.le_trans (Nat.le_of_ble_eq_true rfl) hRl⟩) (x_recv hK hW xO199 rfl) hK hY hB hW hcs rfl hl.1 rfl (Nat.le_of_ble_eq_true rfl) dX0_person_2 ?_
  refine lv_if_ne (tgt := 11) hx hb dX0_person_5 (by decide) (fun c2 => ?_) (fun c2 => ?_)
  · rw [if_neg c2] at hf
    refine lv_iload_n hx hb dX0_person_11 rfl (lv_at hl 2 rfl) ?_
    by_cases c3 : a1 = 0
    · rw [if_pos c3] at hf
      refine g_tsI (tgt := 44) hx hb dX0_person_12 c3 (by decide) (by decide) rfl (by decide) ?_
      refine lv_aload_n hx hb dX0_person_44 rfl (lv_at hl 0 rfl) ?_
      refine x_get (v := .ref (ad 299)) hx hb hts hown hK hW xO199 in_X0 rfl 4 (by decide) q228 rfl rfl dX0_person_45 ?_
      refine x_get (v := .ref (ad 202)) hx hb hts hown hK hW xO299 in_X1 rfl 2 (by decide) q162 rfl rfl dX0_person_48 ?_
      refine lv_iload_n hx hb dX0_person_51 rfl (lv_at hl 1 rfl) ?_
      obtain ⟨v4, hv4, hf⟩ := ob1_e hf
      refine x_iald hx hb hK hW xA202 hv4 dX0_person_52 ?_
      obtain rfl := so1 hf
      exact W.iret hx hb hr (fun t ht _ => ⟨rfl, ht⟩) (fun q hq => by cases hq) dX0_person_53
    · rw [if_neg c3] at hf
      by_cases c5 : a1 = 1
      · rw [if_pos c5] at hf
        refine g_tsI (tgt := 54) hx hb dX0_person_12 c5 (by decide) (by decide) rfl (by decide) ?_
        refine lv_aload_n hx hb dX0_person_54 rfl (lv_at hl 0 rfl) ?_
        refine x_get (v := .ref (ad 299)) hx hb hts hown hK hW xO199 in_X0 rfl 4 (by decide) q228 rfl rfl dX0_person_55 ?_
        refine x_get (v := .ref (ad 203)) hx hb hts hown hK hW xO299 in_X1 rfl 3 (by decide) q165 rfl rfl dX0_person_58 ?_
        refine lv_iload_n hx hb dX0_person_61 rfl (lv_at hl 1 rfl) ?_
        obtain ⟨v6, hv6, hf⟩ := ob1_e hf
        refine x_iald hx hb hK hW xA203 hv6 dX0_person_62 ?_
        obtain rfl := so1 hf
        exact W.iret hx hb hr (fun t ht _ => ⟨rfl, ht⟩) (fun q hq => by cases hq) dX0_person_63
      · rw [if_neg c5] at hf
        by_cases c7 : a1 = 2
        · rw [if_pos c7] at hf
          refine g_tsI (tgt := 64) hx hb dX0_person_12 c7 (by decide) (by decide) rfl (by decide) ?_
          refine lv_aload_n hx hb dX0_person_64 rfl (lv_at hl 0 rfl) ?_
          refine x_get (v := .ref (ad 299)) hx hb hts hown hK hW xO199 in_X0 rfl 4 (by decide) q228 rfl rfl dX0_person_65 ?_
          refine lv_iload_n hx hb dX0_person_68 rfl (lv_at hl 1 rfl) ?_
          obtain ⟨v8, h8, hf⟩ := ob1_e hf
          refine x_vR (ov := some (.int v8)) (D := D) (s0 := s0) (Sc := pS) (adc := (sh 200 ad)) (Ic := (sh 200 I)) (Ac := (sh 200 A)) (Rc := (sh 200 R)) (Gc := nG) (Xc := (xr200 D ad I A R G X)) (base := base) (As := [.int a0]) (rest := []) (b := ad 299) (C := RX1) ⟨hx, hb, hml, hown, hts⟩ (p_load_met l D s0 h0 (sh 200 ad) (xr200 D ad I A R G X) base (sh 200 I) (sh 200 A) (sh 200 R) pl n ks (xrg200 hR) a0 v8 h8) (g_cwV 1 hts (lw_V q858 q772 q773 q77 q774) rfl rfl p_load_ds ⟨Nat.le_trans (Nat.le_of_ble_eq_true rfl) hRf, Nat.le_trans (Nat.le_of_ble_eq_true rfl) hRl⟩) (x_recv hK hW xO299 rfl) hK hY hB (xw200 hW) hcs rfl hl.1 rfl (Nat.le_of_ble_eq_true rfl) dX0_person_69 ?_
          obtain rfl := so1 hf
          exact W.iret hx hb hr (fun t ht _ => ⟨rfl, ht⟩) (fun q hq => by cases hq) dX0_person_72
        · rw [if_neg c7] at hf
          by_cases c9 : a1 = 3
          · rw [if_pos c9] at hf
            refine g_tsI (tgt := 73) hx hb dX0_person_12 c9 (by decide) (by decide) rfl (by decide) ?_
            refine lv_aload_n hx hb dX0_person_73 rfl (lv_at hl 0 rfl) ?_
            refine x_get (v := .ref (ad 299)) hx hb hts hown hK hW xO199 in_X0 rfl 4 (by decide) q228 rfl rfl dX0_person_74 ?_
            obtain ⟨v10, h10, hf⟩ := ob1_e hf
            refine x_vR (ov := some (.int v10)) (D := D) (s0 := s0) (Sc := pS) (adc := (sh 200 ad)) (Ic := (sh 200 I)) (Ac := (sh 200 A)) (Rc := (sh 200 R)) (Gc := nG) (Xc := (xr200 D ad I A R G X)) (base := base) (As := []) (rest := []) (b := ad 299) (C := RX1) ⟨hx, hb, hml, hown, hts⟩ (p_crushed_met l D s0 h0 (sh 200 ad) (xr200 D ad I A R G X) base (sh 200 I) (sh 200 A) (sh 200 R) pl n ks (xrg200 hR)  v10 h10) (g_cwV 0 hts (lw_V q889 q890 q891 q77 q892) rfl rfl p_crushed_ds ⟨Nat.le_trans (Nat.le_of_ble_eq_true rfl) hRf, Nat.le_trans (Nat.le_of_ble_eq_true rfl) hRl⟩) (x_recv hK hW xO299 rfl) hK hY hB (xw200 hW) hcs rfl hl.1 rfl (Nat.le_of_ble_eq_true rfl) dX0_person_77 ?_
            refine lv_iload_n hx hb dX0_person_80 rfl (lv_at hl 1 rfl) ?_
            refine lv_ishr hx hb dX0_person_81 ?_
            refine lv_iconst (v := 1) hx hb dX0_person_82 (by decide) ?_
            refine lv_iand hx hb dX0_person_83 ?_
            obtain rfl := so1 hf
            exact W.iret hx hb hr (fun t ht _ => ⟨rfl, ht⟩) (fun q hq => by cases hq) dX0_person_84
          · rw [if_neg c9] at hf
            refine lv_tableOut (tgt := 85) hx hb dX0_person_12 (by have z0 := lv_neT c3 (show (0 : Int32).toInt = 0 by decide); have z1 := lv_neT c5 (show (1 : Int32).toInt = 1 by decide); have z2 := lv_neT c7 (show (2 : Int32).toInt = 2 by decide); have z3 := lv_neT c9 (show (3 : Int32).toInt = 3 by decide); omega) (by decide) ?_
            refine lv_ldc (v := (-1000001)) hx hb hown (hts _ q289) dX0_person_85 ?_
            obtain rfl := so1 hf
            exact W.iret hx hb hr (fun t ht _ => ⟨rfl, ht⟩) (fun q hq => by cases hq) dX0_person_87
  · rw [if_pos c2] at hf
    refine lv_ldc (v := (-1000001)) hx hb hown (hts _ q289) dX0_person_8 ?_
    obtain rfl := so1 hf
    exact W.iret hx hb hr (fun t ht _ => ⟨rfl, ht⟩) (fun q hq => by cases hq) dX0_person_10
theorem x_person_ds : yX0_person.cls = RX0 ∧ yX0_person.cls ≠ "java/lang/invoke/MethodHandle" ∧ yX0_person.cls ≠ "java/lang/invoke/VarHandle" ∧ (parseMethodDescriptor yX0_person.desc).map (fun d => d.parameters.length) = some 2 := by decide +kernel
def x_promise (I : Nat → Int32) (A : Nat → Nat → Int32) (R : Nat → Option Nat) (G : Nat → Nat → Option Nat) (pl n : Nat) (ks : Nat → Nat) (a0 : Int32) (a1 : Int32) : Option (Int32) :=
  ob1 (x_isPromise I A R G pl n ks a0) fun (v1 : Int32) =>
  if v1 = 0 then (some (-1000001)) else (if a1 = 0 then (ob1 (ldO (A 205) 8 a0) fun (v4 : Int32) =>
      some v4) else if a1 = 1 then (ob1 (ldO (A 206) 8 a0) fun (v6 : Int32) =>
      some v6) else if a1 = 2 then (ob1 (ldO (A 207) 8 a0) fun (v8 : Int32) =>
      some v8) else if a1 = 3 then (ob1 (ldO (A 208) 8 a0) fun (v10 : Int32) =>
      some v10) else if a1 = 4 then (ob1 (ldO (A 209) 8 a0) fun (v12 : Int32) =>
      some v12) else if a1 = 5 then (some (((I 210) >>> (a0 &&& 31)) &&& 1)) else if a1 = 6 then (ob1 (p_pounds (sh 200 I) (sh 200 A) (sh 200 R) pl n ks a0) fun (v15 : Int32) =>
      some v15) else (some (-1000001)))
set_option maxRecDepth 100000 in
set_option maxHeartbeats 4000000 in
theorem x_promise_met (l : Launch) (D : dd_) (s0 : State) (h0 : ∀ w ∈ lw_tbl, va_Nw w s0) (ad : Nat → Nat) (X : va_W) (base : Nat) (I : Nat → Int32) (A : Nat → Nat → Int32) (R : Nat → Option Nat) (G : Nat → Nat → Option Nat) (pl n : Nat) (ks : Nat → Nat) (hR : RegX D X pl n ks) (a0 : Int32) (a1 : Int32) (r : Int32) (hf : x_promise I A R G pl n ks a0 a1 = some r) : Met l yX0_promise (ws_ yX0_promise cX0_promise 3 (some .int)) ({ frames := 5, cells := 0, slots := 0, locals := 117 }) (PcX D s0 xS ad I A R G X base [.ref (ad 199), .int a0, .int a1]) (QcR (some (.int r))) 0 0 (fun _ => False) := by
  refine Met.ofW (cc := cX0_promise) (maxL := 3) (ret := (some .int)) (by decide) rfl ?_
  intro p e s m args below meth c s₁ B hml hv
  obtain ⟨rfl, hK, hY, hB, hW⟩ := hv
  have hx := B.exec
  have hb := B.bytes
  have hr := B.returns
  have hts := atoms_spec (ws := (ws_ yX0_promise cX0_promise 3 (some .int))) B.pre
  have hts : ∀ w ∈ lw_all, w.before _ s = true := fun w h => hts w (List.mem_cons_of_mem _ h)
  have hown : s.vm.findClass RX0 = some m.cls := findClass_of_methodNamed B.named
  have hlocks := B.notSynchronized
  have hRf : 5 ≤ (headSpec (ws_ yX0_promise cX0_promise 3 (some .int)) ({ frames := 5, cells := 0, slots := 0, locals := 117 })).room.frames := Nat.le_refl _
  have hRl : 117 ≤ (headSpec (ws_ yX0_promise cX0_promise 3 (some .int)) ({ frames := 5, cells := 0, slots := 0, locals := 117 })).room.locals := Nat.le_refl _
  have hcs : 0 ≤ (headSpec (ws_ yX0_promise cX0_promise 3 (some .int)) ({ frames := 5, cells := 0, slots := 0, locals := 117 })).room.cells ∧ 0 ≤ (headSpec (ws_ yX0_promise cX0_promise 3 (some .int)) ({ frames := 5, cells := 0, slots := 0, locals := 117 })).room.slots := ⟨Nat.zero_le _, Nat.zero_le _⟩
  have hl := lv_entry ([.ref (ad 199), .int a0, .int a1]) (n := 3) (Nat.le_of_ble_eq_true rfl)
  rw [lg_entry_eq]
  generalize (lg_sl ([.ref (ad 199), .int a0, .int a1]) ++ List.replicate (3 - (lg_sl ([.ref (ad 199), .int a0, .int a1])).length) Slot.unset).toArray = ls at hl ⊢
  have hl : lv_has ls 3 [(0, .ref (ad 199)), (1, .int a0), (2, .int a1)] := hl
  have hf : (ob1 (x_isPromise I A R G pl n ks a0) fun (v1 : Int32) =>
    if v1 = 0 then (some (-1000001)) else (if a1 = 0 then (ob1 (ldO (A 205) 8 a0) fun (v4 : Int32) =>
        some v4) else if a1 = 1 then (ob1 (ldO (A 206) 8 a0) fun (v6 : Int32) =>
        some v6) else if a1 = 2 then (ob1 (ldO (A 207) 8 a0) fun (v8 : Int32) =>
        some v8) else if a1 = 3 then (ob1 (ldO (A 208) 8 a0) fun (v10 : Int32) =>
        some v10) else if a1 = 4 then (ob1 (ldO (A 209) 8 a0) fun (v12 : Int32) =>
        some v12) else if a1 = 5 then (some (((I 210) >>> (a0 &&& 31)) &&& 1)) else if a1 = 6 then (ob1 (p_pounds (sh 200 I) (sh 200 A) (sh 200 R) pl n ks a0) fun (v15 : Int32) =>
        some v15) else (some (-1000001)))) = some r := hf
  refine lv_aload_n hx hb dX0_promise_0 rfl (lv_at hl 0 rfl) ?_
  refine lv_iload_n hx hb dX0_promise_1 rfl (lv_at hl 1 rfl) ?_
  obtain ⟨v1, h1, hf⟩ := ob1_e hf
  refine x_vR (ov := some (.int v1)) (D := D) (s0 := s0) (Sc := xS) (adc := ad) (Ic := I) (Ac := A) (Rc := R) (Gc := G) (Xc := X) (base := base) (As := [.int a0]) (rest := []) (b := ad 199) (C := RX0) ⟨hx, hb, hml, hown, hts⟩ (x_isPromise_met l D s0 h0 ad X base I A R G pl n ks hR a0 v1 h1) (g_cwV 1 hts (lw_V q849 q851 qs20 q76 q852) rfl rfl x_isPromise_ds ⟨Nat.le_trans (Nat.le_of_ble_eq_true rfl) hRf, Nat.le_trans (Nat.le_of_ble_eq_true rfl) hRl⟩) (x_recv hK hW xO199 rfl) hK hY hB hW hcs rfl hl.1 rfl (Nat.le_of_ble_eq_true rfl) dX0_promise_2 ?_
  refine lv_if_ne (tgt := 11) hx hb dX0_promise_5 (by decide) (fun c2 => ?_) (fun c2 => ?_)
  · rw [if_neg c2] at hf
    refine lv_iload_n hx hb dX0_promise_11 rfl (lv_at hl 2 rfl) ?_
    by_cases c3 : a1 = 0
    · rw [if_pos c3] at hf
      refine g_tsI (tgt := 56) hx hb dX0_promise_12 c3 (by decide) (by decide) rfl (by decide) ?_
      refine lv_aload_n hx hb dX0_promise_56 rfl (lv_at hl 0 rfl) ?_
      refine x_get (v := .ref (ad 299)) hx hb hts hown hK hW xO199 in_X0 rfl 4 (by decide) q228 rfl rfl dX0_promise_57 ?_
      refine x_get (v := .ref (ad 205)) hx hb hts hown hK hW xO299 in_X1 rfl 5 (by decide) q170 rfl rfl dX0_promise_60 ?_
      refine lv_iload_n hx hb dX0_promise_63 rfl (lv_at hl 1 rfl) ?_
      obtain ⟨v4, hv4, hf⟩ := ob1_e hf
      refine x_iald hx hb hK hW xA205 hv4 dX0_promise_64 ?_
      obtain rfl := so1 hf
      exact W.iret hx hb hr (fun t ht _ => ⟨rfl, ht⟩) (fun q hq => by cases hq) dX0_promise_65
    · rw [if_neg c3] at hf
      by_cases c5 : a1 = 1
      · rw [if_pos c5] at hf
        refine g_tsI (tgt := 66) hx hb dX0_promise_12 c5 (by decide) (by decide) rfl (by decide) ?_
        refine lv_aload_n hx hb dX0_promise_66 rfl (lv_at hl 0 rfl) ?_
        refine x_get (v := .ref (ad 299)) hx hb hts hown hK hW xO199 in_X0 rfl 4 (by decide) q228 rfl rfl dX0_promise_67 ?_
        refine x_get (v := .ref (ad 206)) hx hb hts hown hK hW xO299 in_X1 rfl 6 (by decide) q172 rfl rfl dX0_promise_70 ?_
        refine lv_iload_n hx hb dX0_promise_73 rfl (lv_at hl 1 rfl) ?_
        obtain ⟨v6, hv6, hf⟩ := ob1_e hf
        refine x_iald hx hb hK hW xA206 hv6 dX0_promise_74 ?_
        obtain rfl := so1 hf
        exact W.iret hx hb hr (fun t ht _ => ⟨rfl, ht⟩) (fun q hq => by cases hq) dX0_promise_75
      · rw [if_neg c5] at hf
        by_cases c7 : a1 = 2
        · rw [if_pos c7] at hf
          refine g_tsI (tgt := 76) hx hb dX0_promise_12 c7 (by decide) (by decide) rfl (by decide) ?_
          refine lv_aload_n hx hb dX0_promise_76 rfl (lv_at hl 0 rfl) ?_
          refine x_get (v := .ref (ad 299)) hx hb hts hown hK hW xO199 in_X0 rfl 4 (by decide) q228 rfl rfl dX0_promise_77 ?_
          refine x_get (v := .ref (ad 207)) hx hb hts hown hK hW xO299 in_X1 rfl 7 (by decide) q174 rfl rfl dX0_promise_80 ?_
          refine lv_iload_n hx hb dX0_promise_83 rfl (lv_at hl 1 rfl) ?_
          obtain ⟨v8, hv8, hf⟩ := ob1_e hf
          refine x_iald hx hb hK hW xA207 hv8 dX0_promise_84 ?_
          obtain rfl := so1 hf
          exact W.iret hx hb hr (fun t ht _ => ⟨rfl, ht⟩) (fun q hq => by cases hq) dX0_promise_85
        · rw [if_neg c7] at hf
          by_cases c9 : a1 = 3
          · rw [if_pos c9] at hf
            refine g_tsI (tgt := 86) hx hb dX0_promise_12 c9 (by decide) (by decide) rfl (by decide) ?_
            refine lv_aload_n hx hb dX0_promise_86 rfl (lv_at hl 0 rfl) ?_
            refine x_get (v := .ref (ad 299)) hx hb hts hown hK hW xO199 in_X0 rfl 4 (by decide) q228 rfl rfl dX0_promise_87 ?_
            refine x_get (v := .ref (ad 208)) hx hb hts hown hK hW xO299 in_X1 rfl 8 (by decide) q176 rfl rfl dX0_promise_90 ?_
            refine lv_iload_n hx hb dX0_promise_93 rfl (lv_at hl 1 rfl) ?_
            obtain ⟨v10, hv10, hf⟩ := ob1_e hf
            refine x_iald hx hb hK hW xA208 hv10 dX0_promise_94 ?_
            obtain rfl := so1 hf
            exact W.iret hx hb hr (fun t ht _ => ⟨rfl, ht⟩) (fun q hq => by cases hq) dX0_promise_95
          · rw [if_neg c9] at hf
            by_cases c11 : a1 = 4
            · rw [if_pos c11] at hf
              refine g_tsI (tgt := 96) hx hb dX0_promise_12 c11 (by decide) (by decide) rfl (by decide) ?_
              refine lv_aload_n hx hb dX0_promise_96 rfl (lv_at hl 0 rfl) ?_
              refine x_get (v := .ref (ad 299)) hx hb hts hown hK hW xO199 in_X0 rfl 4 (by decide) q228 rfl rfl dX0_promise_97 ?_
              refine x_get (v := .ref (ad 209)) hx hb hts hown hK hW xO299 in_X1 rfl 9 (by decide) q178 rfl rfl dX0_promise_100 ?_
              refine lv_iload_n hx hb dX0_promise_103 rfl (lv_at hl 1 rfl) ?_
              obtain ⟨v12, hv12, hf⟩ := ob1_e hf
              refine x_iald hx hb hK hW xA209 hv12 dX0_promise_104 ?_
              obtain rfl := so1 hf
              exact W.iret hx hb hr (fun t ht _ => ⟨rfl, ht⟩) (fun q hq => by cases hq) dX0_promise_105
            · rw [if_neg c11] at hf
              by_cases c13 : a1 = 5
              · rw [if_pos c13] at hf
                refine g_tsI (tgt := 106) hx hb dX0_promise_12 c13 (by decide) (by decide) rfl (by decide) ?_
                refine lv_aload_n hx hb dX0_promise_106 rfl (lv_at hl 0 rfl) ?_
                refine x_get (v := .ref (ad 299)) hx hb hts hown hK hW xO199 in_X0 rfl 4 (by decide) q228 rfl rfl dX0_promise_107 ?_
                refine x_get (v := .int (I 210)) hx hb hts hown hK hW xO299 in_X1 rfl 10 (by decide) q180 rfl rfl dX0_promise_110 ?_
                refine lv_iload_n hx hb dX0_promise_113 rfl (lv_at hl 1 rfl) ?_
                refine lv_ishr hx hb dX0_promise_114 ?_
                refine lv_iconst (v := 1) hx hb dX0_promise_115 (by decide) ?_
                refine lv_iand hx hb dX0_promise_116 ?_
                obtain rfl := so1 hf
                exact W.iret hx hb hr (fun t ht _ => ⟨rfl, ht⟩) (fun q hq => by cases hq) dX0_promise_117
              · rw [if_neg c13] at hf
                by_cases c14 : a1 = 6
                · rw [if_pos c14] at hf
                  refine g_tsI (tgt := 118) hx hb dX0_promise_12 c14 (by decide) (by decide) rfl (by decide) ?_
                  refine lv_aload_n hx hb dX0_promise_118 rfl (lv_at hl 0 rfl) ?_
                  refine x_get (v := .ref (ad 299)) hx hb hts hown hK hW xO199 in_X0 rfl 4 (by decide) q228 rfl rfl dX0_promise_119 ?_
                  refine lv_iload_n hx hb dX0_promise_122 rfl (lv_at hl 1 rfl) ?_
                  obtain ⟨v15, h15, hf⟩ := ob1_e hf
                  refine x_vR (ov := some (.int v15)) (D := D) (s0 := s0) (Sc := pS) (adc := (sh 200 ad)) (Ic := (sh 200 I)) (Ac := (sh 200 A)) (Rc := (sh 200 R)) (Gc := nG) (Xc := (xr200 D ad I A R G X)) (base := base) (As := [.int a0]) (rest := []) (b := ad 299) (C := RX1) ⟨hx, hb, hml, hown, hts⟩ (p_pounds_met l D s0 h0 (sh 200 ad) (xr200 D ad I A R G X) base (sh 200 I) (sh 200 A) (sh 200 R) pl n ks (xrg200 hR) a0 v15 h15) (g_cwV 1 hts (lw_V q901 q780 q781 q77 q782) rfl rfl p_pounds_ds ⟨Nat.le_trans (Nat.le_of_ble_eq_true rfl) hRf, Nat.le_trans (Nat.le_of_ble_eq_true rfl) hRl⟩) (x_recv hK hW xO299 rfl) hK hY hB (xw200 hW) hcs rfl hl.1 rfl (Nat.le_of_ble_eq_true rfl) dX0_promise_123 ?_
                  obtain rfl := so1 hf
                  exact W.iret hx hb hr (fun t ht _ => ⟨rfl, ht⟩) (fun q hq => by cases hq) dX0_promise_126
                · rw [if_neg c14] at hf
                  refine lv_tableOut (tgt := 127) hx hb dX0_promise_12 (by have z0 := lv_neT c3 (show (0 : Int32).toInt = 0 by decide); have z1 := lv_neT c5 (show (1 : Int32).toInt = 1 by decide); have z2 := lv_neT c7 (show (2 : Int32).toInt = 2 by decide); have z3 := lv_neT c9 (show (3 : Int32).toInt = 3 by decide); have z4 := lv_neT c11 (show (4 : Int32).toInt = 4 by decide); have z5 := lv_neT c13 (show (5 : Int32).toInt = 5 by decide); have z6 := lv_neT c14 (show (6 : Int32).toInt = 6 by decide); omega) (by decide) ?_
                  refine lv_ldc (v := (-1000001)) hx hb hown (hts _ q289) dX0_promise_127 ?_
                  obtain rfl := so1 hf
                  exact W.iret hx hb hr (fun t ht _ => ⟨rfl, ht⟩) (fun q hq => by cases hq) dX0_promise_129
  · rw [if_pos c2] at hf
    refine lv_ldc (v := (-1000001)) hx hb hown (hts _ q289) dX0_promise_8 ?_
    obtain rfl := so1 hf
    exact W.iret hx hb hr (fun t ht _ => ⟨rfl, ht⟩) (fun q hq => by cases hq) dX0_promise_10
theorem x_promise_ds : yX0_promise.cls = RX0 ∧ yX0_promise.cls ≠ "java/lang/invoke/MethodHandle" ∧ yX0_promise.cls ≠ "java/lang/invoke/VarHandle" ∧ (parseMethodDescriptor yX0_promise.desc).map (fun d => d.parameters.length) = some 2 := by decide +kernel
def x_height (I : Nat → Int32) (A : Nat → Nat → Int32) (R : Nat → Option Nat) (G : Nat → Nat → Option Nat) (pl n : Nat) (ks : Nat → Nat) (a0 : Int32) : Option (Int32) :=
  ob1 (x_isParish I A R G pl n ks) fun (v1 : Int32) =>
  if v1 = 0 then (some (-1000002)) else (ob1 (x_isPlace a0) fun (v3 : Int32) =>
    ob1 (if v3 = 0 then ((some (-1000001) : Option (Int32))) else (ob1 (ldO (A 200) 6 a0) fun (v6 : Int32) =>
        (some v6 : Option (Int32)))) fun (v4 : Int32) =>
    some v4)
set_option maxRecDepth 100000 in
set_option maxHeartbeats 4000000 in
theorem x_height_met (l : Launch) (D : dd_) (s0 : State) (h0 : ∀ w ∈ lw_tbl, va_Nw w s0) (ad : Nat → Nat) (X : va_W) (base : Nat) (I : Nat → Int32) (A : Nat → Nat → Int32) (R : Nat → Option Nat) (G : Nat → Nat → Option Nat) (pl n : Nat) (ks : Nat → Nat) (hR : RegX D X pl n ks) (a0 : Int32) (r : Int32) (hf : x_height I A R G pl n ks a0 = some r) : Met l yX0_height (ws_ yX0_height cX0_height 2 (some .int)) ({ frames := 4, cells := 0, slots := 0, locals := 92 }) (PcX D s0 xS ad I A R G X base [.ref (ad 199), .int a0]) (QcR (some (.int r))) 0 0 (fun _ => False) := by
  refine Met.ofW (cc := cX0_height) (maxL := 2) (ret := (some .int)) (by decide) rfl ?_
  intro p e s m args below meth c s₁ B hml hv
  obtain ⟨rfl, hK, hY, hB, hW⟩ := hv
  have hx := B.exec
  have hb := B.bytes
  have hr := B.returns
  have hts := atoms_spec (ws := (ws_ yX0_height cX0_height 2 (some .int))) B.pre
  have hts : ∀ w ∈ lw_all, w.before _ s = true := fun w h => hts w (List.mem_cons_of_mem _ h)
  have hown : s.vm.findClass RX0 = some m.cls := findClass_of_methodNamed B.named
  have hlocks := B.notSynchronized
  have hRf : 4 ≤ (headSpec (ws_ yX0_height cX0_height 2 (some .int)) ({ frames := 4, cells := 0, slots := 0, locals := 92 })).room.frames := Nat.le_refl _
  have hRl : 92 ≤ (headSpec (ws_ yX0_height cX0_height 2 (some .int)) ({ frames := 4, cells := 0, slots := 0, locals := 92 })).room.locals := Nat.le_refl _
  have hcs : 0 ≤ (headSpec (ws_ yX0_height cX0_height 2 (some .int)) ({ frames := 4, cells := 0, slots := 0, locals := 92 })).room.cells ∧ 0 ≤ (headSpec (ws_ yX0_height cX0_height 2 (some .int)) ({ frames := 4, cells := 0, slots := 0, locals := 92 })).room.slots := ⟨Nat.zero_le _, Nat.zero_le _⟩
  have hl := lv_entry ([.ref (ad 199), .int a0]) (n := 2) (Nat.le_of_ble_eq_true rfl)
  rw [lg_entry_eq]
  generalize (lg_sl ([.ref (ad 199), .int a0]) ++ List.replicate (2 - (lg_sl ([.ref (ad 199), .int a0])).length) Slot.unset).toArray = ls at hl ⊢
  have hl : lv_has ls 2 [(0, .ref (ad 199)), (1, .int a0)] := hl
  have hf : (ob1 (x_isParish I A R G pl n ks) fun (v1 : Int32) =>
    if v1 = 0 then (some (-1000002)) else (ob1 (x_isPlace a0) fun (v3 : Int32) =>
      ob1 (if v3 = 0 then ((some (-1000001) : Option (Int32))) else (ob1 (ldO (A 200) 6 a0) fun (v6 : Int32) =>
          (some v6 : Option (Int32)))) fun (v4 : Int32) =>
      some v4)) = some r := hf
  refine lv_aload_n hx hb dX0_height_0 rfl (lv_at hl 0 rfl) ?_
  obtain ⟨v1, h1, hf⟩ := ob1_e hf
  refine x_vR (ov := some (.int v1)) (D := D) (s0 := s0) (Sc := xS) (adc := ad) (Ic := I) (Ac := A) (Rc := R) (Gc := G) (Xc := X) (base := base) (As := []) (rest := []) (b := ad 199) (C := RX0) ⟨hx, hb, hml, hown, hts⟩ (x_isParish_met l D s0 h0 ad X base I A R G pl n ks hR  v1 h1) (g_cwV 0 hts (lw_V q863 q865 qs21 q76 q866) rfl rfl x_isParish_ds ⟨Nat.le_trans (Nat.le_of_ble_eq_true rfl) hRf, Nat.le_trans (Nat.le_of_ble_eq_true rfl) hRl⟩) (x_recv hK hW xO199 rfl) hK hY hB hW hcs rfl hl.1 rfl (Nat.le_of_ble_eq_true rfl) dX0_height_1 ?_
  refine lv_if_ne (tgt := 10) hx hb dX0_height_4 (by decide) (fun c2 => ?_) (fun c2 => ?_)
  · rw [if_neg c2] at hf
    refine lv_iload_n hx hb dX0_height_10 rfl (lv_at hl 1 rfl) ?_
    obtain ⟨v3, h3, hf⟩ := ob1_e hf
    refine x_sR (ov := some (.int v3)) (D := D) (s0 := s0) (Sc := nS) (adc := ad) (Ic := (fun _ => 0)) (Ac := (fun _ _ => 0)) (Rc := nR) (Gc := nG) (Xc := []) (base := base) (As := [.int a0]) (rest := []) ⟨hx, hb, hml, hown, hts⟩ (x_isPlace_met l D s0 h0 ad [] base a0 v3 h3) (va_cwS 1 hts (lw_S q840 q841 q76 q842) rfl rfl rfl x_isPlace_ds.2 ⟨Nat.le_trans (Nat.le_of_ble_eq_true rfl) hRf, Nat.le_trans (Nat.le_of_ble_eq_true rfl) hRl⟩) hK hY hB WX_nil hcs rfl hl.1 rfl (Nat.le_of_ble_eq_true rfl) dX0_height_11 ?_
    obtain ⟨v4, hm4, hf⟩ := ob1_e hf
    refine w_cutL (nL := 2) (L := []) (pcj := 31) (st := [.int v4]) (fun ls hl => ?_) (fun K4 => ?_)
    · obtain rfl := so1 hf
      exact W.iret hx hb hr (fun t ht _ => ⟨rfl, ht⟩) (fun q hq => by cases hq) dX0_height_31
    · refine lv_if_eq (tgt := 29) hx hb dX0_height_14 (by decide) (fun c5 => ?_) (fun c5 => ?_)
      · rw [if_pos c5] at hm4
        refine lv_ldc (v := (-1000001)) hx hb hown (hts _ q289) dX0_height_29 ?_
        obtain rfl := so1 hm4
        exact K4 ls (lv_sub hl [] rfl)
      · rw [if_neg c5] at hm4
        refine lv_aload_n hx hb dX0_height_17 rfl (lv_at hl 0 rfl) ?_
        refine x_get (v := .ref (ad 299)) hx hb hts hown hK hW xO199 in_X0 rfl 4 (by decide) q228 rfl rfl dX0_height_18 ?_
        refine x_get (v := .ref (ad 200)) hx hb hts hown hK hW xO299 in_X1 rfl 0 (by decide) q155 rfl rfl dX0_height_21 ?_
        refine lv_iload_n hx hb dX0_height_24 rfl (lv_at hl 1 rfl) ?_
        obtain ⟨v6, hv6, hm4⟩ := ob1_e hm4
        refine x_iald hx hb hK hW xA200 hv6 dX0_height_25 ?_
        refine lv_goto (tgt := 31) hx hb dX0_height_26 (by decide) ?_
        obtain rfl := so1 hm4
        exact K4 ls (lv_sub hl [] rfl)
  · rw [if_pos c2] at hf
    refine lv_ldc (v := (-1000002)) hx hb hown (hts _ q756) dX0_height_7 ?_
    obtain rfl := so1 hf
    exact W.iret hx hb hr (fun t ht _ => ⟨rfl, ht⟩) (fun q hq => by cases hq) dX0_height_9
theorem x_height_ds : yX0_height.cls = RX0 ∧ yX0_height.cls ≠ "java/lang/invoke/MethodHandle" ∧ yX0_height.cls ≠ "java/lang/invoke/VarHandle" ∧ (parseMethodDescriptor yX0_height.desc).map (fun d => d.parameters.length) = some 1 := by decide +kernel
def x_lacksTo_L33 (I : Nat → Int32) (A : Nat → Nat → Int32) (R : Nat → Option Nat) (G : Nat → Nat → Option Nat) (pl n : Nat) (ks : Nat → Nat) (u1 : Int32) (u2 : Int32) (u4 : Int32) : Nat → Int32 → Int32 → Option (Int32 × Int32)
  | 0, _, _ => none
  | k + 1, x3, x5 =>
    if x5 = u2 then (some (x3, x5)) else (ob1 (p_load (sh 200 I) (sh 200 A) (sh 200 R) pl n ks u1) fun (v2 : Int32) =>
      ob1 (p_rise (sh 200 I) (sh 200 A) (sh 200 R) pl n ks x5 (x5 + u4)) fun (v3 : Int32) =>
      ob1 (ldO (A 202) 5 u1) fun (v4 : Int32) =>
      x_lacksTo_L33 I A R G pl n ks u1 u2 u4 k (mxI x3 ((v2 + v3) - v4)) (x5 + u4))
set_option maxRecDepth 100000 in
set_option maxHeartbeats 4000000 in
theorem x_lacksTo_L33_w {p : Program} {l : Launch} {e : Env} {R0 : Room} {s : State} {m : MethodId} {args : Array Value} {below : List Frame} {meth : Method} {c : Code} {cells slots : Nat} {Q : State → Prop} {D : dd_} {s0 : State} {ad : Nat → Nat} {X : va_W} {base : Nat} (hx : p.tables.exec = Jvm.exec) (hb : c.code = cX0_lacksTo) (hml : c.maxLocals = 6) (hown : s.vm.findClass RX0 = some m.cls) (hts : ∀ w ∈ lw_all, w.before args s = true) (hK : Kx D s) (hY : s0.WarmedH s.vm) (h0 : ∀ w ∈ lw_tbl, va_Nw w s0) (hRf : 7 ≤ R0.frames) (hRl : 162 ≤ R0.locals) (hcs : cells ≤ R0.cells ∧ slots ≤ R0.slots) {H : Heap} {locs : List Loc} (hB : base ≤ H.size) (I : Nat → Int32) (A : Nat → Nat → Int32) (R : Nat → Option Nat) (G : Nat → Nat → Option Nat) (pl n : Nat) (ks : Nat → Nat) (u1 : Int32) (u2 : Int32) (u4 : Int32) (hR : RegX D X pl n ks) (hW : WX D xS ad I A R G X H) (y3 : Int32) (y5 : Int32) (KX : ∀ (ls : Array Slot), lv_has ls 6 [(3, .int y3)] → W p l e R0 s m args below meth c H locs cells slots Q (F0 m 87 ls [])) : ∀ (k : Nat) (x3 : Int32) (x5 : Int32) (ls : Array Slot), x_lacksTo_L33 I A R G pl n ks u1 u2 u4 k x3 x5 = some (y3, y5) → lv_has ls 6 [(0, .ref (ad 199)), (1, .int u1), (2, .int u2), (3, .int x3), (4, .int u4), (5, .int x5)] → W p l e R0 s m args below meth c H locs cells slots Q (F0 m 33 ls []) := by
  intro k
  induction k with
  | zero =>
    intro x3 x5 ls hf
    exact nomatch (show (none : Option (Int32 × Int32)) = some (y3, y5) from hf)
  | succ k ih =>
    intro x3 x5 ls hf hl
    have hf : (if x5 = u2 then (some (x3, x5)) else (ob1 (p_load (sh 200 I) (sh 200 A) (sh 200 R) pl n ks u1) fun (v2 : Int32) =>
          ob1 (p_rise (sh 200 I) (sh 200 A) (sh 200 R) pl n ks x5 (x5 + u4)) fun (v3 : Int32) =>
          ob1 (ldO (A 202) 5 u1) fun (v4 : Int32) =>
          x_lacksTo_L33 I A R G pl n ks u1 u2 u4 k (mxI x3 ((v2 + v3) - v4)) (x5 + u4))) = some (y3, y5) := hf
    refine lv_iload hx hb dX0_lacksTo_33 (lv_at hl 5 rfl) ?_
    refine lv_iload_n hx hb dX0_lacksTo_35 rfl (lv_at hl 2 rfl) ?_
    refine lv_icmp_eq (tgt := 87) hx hb dX0_lacksTo_36 (by decide) (fun c1 => ?_) (fun c1 => ?_)
    · rw [if_pos c1] at hf
      obtain ⟨rfl, rfl⟩ := so2 hf
      exact KX ls (lv_sub hl [3] rfl)
    · rw [if_neg c1] at hf
      refine lv_iload_n hx hb dX0_lacksTo_39 rfl (lv_at hl 3 rfl) ?_
      refine lv_aload_n hx hb dX0_lacksTo_40 rfl (lv_at hl 0 rfl) ?_
      refine x_get (v := .ref (ad 299)) hx hb hts hown hK hW xO199 in_X0 rfl 4 (by decide) q228 rfl rfl dX0_lacksTo_41 ?_
      refine lv_iload_n hx hb dX0_lacksTo_44 rfl (lv_at hl 1 rfl) ?_
      obtain ⟨v2, h2, hf⟩ := ob1_e hf
      refine x_vR (ov := some (.int v2)) (D := D) (s0 := s0) (Sc := pS) (adc := (sh 200 ad)) (Ic := (sh 200 I)) (Ac := (sh 200 A)) (Rc := (sh 200 R)) (Gc := nG) (Xc := (xr200 D ad I A R G X)) (base := base) (As := [.int u1]) (rest := [.int x3]) (b := ad 299) (C := RX1) ⟨hx, hb, hml, hown, hts⟩ (p_load_met l D s0 h0 (sh 200 ad) (xr200 D ad I A R G X) base (sh 200 I) (sh 200 A) (sh 200 R) pl n ks (xrg200 hR) u1 v2 h2) (g_cwV 1 hts (lw_V q858 q772 q773 q77 q774) rfl rfl p_load_ds ⟨Nat.le_trans (Nat.le_of_ble_eq_true rfl) hRf, Nat.le_trans (Nat.le_of_ble_eq_true rfl) hRl⟩) (x_recv hK hW xO299 rfl) hK hY hB (xw200 hW) hcs rfl hl.1 rfl (Nat.le_of_ble_eq_true rfl) dX0_lacksTo_45 ?_
      refine lv_aload_n hx hb dX0_lacksTo_48 rfl (lv_at hl 0 rfl) ?_
      refine x_get (v := .ref (ad 299)) hx hb hts hown hK hW xO199 in_X0 rfl 4 (by decide) q228 rfl rfl dX0_lacksTo_49 ?_
      refine lv_iload hx hb dX0_lacksTo_52 (lv_at hl 5 rfl) ?_
      refine lv_iload hx hb dX0_lacksTo_54 (lv_at hl 5 rfl) ?_
      refine lv_iload hx hb dX0_lacksTo_56 (lv_at hl 4 rfl) ?_
      refine lv_iadd hx hb dX0_lacksTo_58 ?_
      obtain ⟨v3, h3, hf⟩ := ob1_e hf
      refine x_vR (ov := some (.int v3)) (D := D) (s0 := s0) (Sc := pS) (adc := (sh 200 ad)) (Ic := (sh 200 I)) (Ac := (sh 200 A)) (Rc := (sh 200 R)) (Gc := nG) (Xc := (xr200 D ad I A R G X)) (base := base) (As := [.int x5, .int (x5 + u4)]) (rest := [.int v2, .int x3]) (b := ad 299) (C := RX1) ⟨hx, hb, hml, hown, hts⟩ (p_rise_met l D s0 h0 (sh 200 ad) (xr200 D ad I A R G X) base (sh 200 I) (sh 200 A) (sh 200 R) pl n ks (xrg200 hR) x5 (x5 + u4) v3 h3) (g_cwV 2 hts (lw_V q917 q826 q827 q77 q828) rfl rfl p_rise_ds ⟨Nat.le_trans (Nat.le_of_ble_eq_true rfl) hRf, Nat.le_trans (Nat.le_of_ble_eq_true rfl) hRl⟩) (x_recv hK hW xO299 rfl) hK hY hB (xw200 hW) hcs rfl hl.1 rfl (Nat.le_of_ble_eq_true rfl) dX0_lacksTo_59 ?_
      refine lv_iadd hx hb dX0_lacksTo_62 ?_
      refine lv_aload_n hx hb dX0_lacksTo_63 rfl (lv_at hl 0 rfl) ?_
      refine x_get (v := .ref (ad 299)) hx hb hts hown hK hW xO199 in_X0 rfl 4 (by decide) q228 rfl rfl dX0_lacksTo_64 ?_
      refine x_get (v := .ref (ad 202)) hx hb hts hown hK hW xO299 in_X1 rfl 2 (by decide) q162 rfl rfl dX0_lacksTo_67 ?_
      refine lv_iload_n hx hb dX0_lacksTo_70 rfl (lv_at hl 1 rfl) ?_
      obtain ⟨v4, hv4, hf⟩ := ob1_e hf
      refine x_iald hx hb hK hW xA202 hv4 dX0_lacksTo_71 ?_
      refine lv_isub hx hb dX0_lacksTo_72 ?_
      refine x_max hx hb hml hl.1 hts hown q918 (Nat.le_trans (Nat.le_of_ble_eq_true rfl) hRf) (Nat.le_trans (Nat.le_of_ble_eq_true rfl) hRl) hcs dX0_lacksTo_73 ?_
      refine lv_istore_n (lv' := [(3, .int (mxI x3 ((v2 + v3) - v4))), (0, .ref (ad 199)), (1, .int u1), (2, .int u2), (4, .int u4), (5, .int x5)]) hx hb dX0_lacksTo_76 rfl hl (by decide) rfl (fun ls hl => ?_)
      refine lv_iload hx hb dX0_lacksTo_77 (lv_at hl 5 rfl) ?_
      refine lv_iload hx hb dX0_lacksTo_79 (lv_at hl 4 rfl) ?_
      refine lv_iadd hx hb dX0_lacksTo_81 ?_
      refine lv_istore (lv' := [(5, .int (x5 + u4)), (3, .int (mxI x3 ((v2 + v3) - v4))), (0, .ref (ad 199)), (1, .int u1), (2, .int u2), (4, .int u4)]) hx hb dX0_lacksTo_82 hl (by decide) rfl (fun ls hl => ?_)
      refine lv_goto (tgt := 33) hx hb dX0_lacksTo_84 (by decide) ?_
      exact ih (mxI x3 ((v2 + v3) - v4)) (x5 + u4) ls hf (lv_sub hl [2, 3, 4, 1, 5, 0] rfl)
def x_lacksTo (I : Nat → Int32) (A : Nat → Nat → Int32) (R : Nat → Option Nat) (G : Nat → Nat → Option Nat) (pl n : Nat) (ks : Nat → Nat) (a0 : Int32) (a1 : Int32) : Option (Int32) :=
  ob1 (ldO (A 203) 5 a0) fun (v1 : Int32) =>
  ob1 (if a1 ≤ v1 then ((some (-1) : Option (Int32))) else ((some 1 : Option (Int32)))) fun (v2 : Int32) =>
  ob1 (ldO (A 203) 5 a0) fun (v4 : Int32) =>
  ob2 (x_lacksTo_L33 I A R G pl n ks a0 a1 v2 NF 0 v4) fun (v5 : Int32) (v6 : Int32) =>
  some v5
set_option maxRecDepth 100000 in
set_option maxHeartbeats 4000000 in
theorem x_lacksTo_met (l : Launch) (D : dd_) (s0 : State) (h0 : ∀ w ∈ lw_tbl, va_Nw w s0) (ad : Nat → Nat) (X : va_W) (base : Nat) (I : Nat → Int32) (A : Nat → Nat → Int32) (R : Nat → Option Nat) (G : Nat → Nat → Option Nat) (pl n : Nat) (ks : Nat → Nat) (hR : RegX D X pl n ks) (a0 : Int32) (a1 : Int32) (r : Int32) (hf : x_lacksTo I A R G pl n ks a0 a1 = some r) : Met l yX0_lacksTo (ws_ yX0_lacksTo cX0_lacksTo 6 (some .int)) ({ frames := 7, cells := 0, slots := 0, locals := 162 }) (PcX D s0 xS ad I A R G X base [.ref (ad 199), .int a0, .int a1]) (QcR (some (.int r))) 0 0 (fun _ => False) := by
  refine Met.ofW (cc := cX0_lacksTo) (maxL := 6) (ret := (some .int)) (by decide) rfl ?_
  intro p e s m args below meth c s₁ B hml hv
  obtain ⟨rfl, hK, hY, hB, hW⟩ := hv
  have hx := B.exec
  have hb := B.bytes
  have hr := B.returns
  have hts := atoms_spec (ws := (ws_ yX0_lacksTo cX0_lacksTo 6 (some .int))) B.pre
  have hts : ∀ w ∈ lw_all, w.before _ s = true := fun w h => hts w (List.mem_cons_of_mem _ h)
  have hown : s.vm.findClass RX0 = some m.cls := findClass_of_methodNamed B.named
  have hlocks := B.notSynchronized
  have hRf : 7 ≤ (headSpec (ws_ yX0_lacksTo cX0_lacksTo 6 (some .int)) ({ frames := 7, cells := 0, slots := 0, locals := 162 })).room.frames := Nat.le_refl _
  have hRl : 162 ≤ (headSpec (ws_ yX0_lacksTo cX0_lacksTo 6 (some .int)) ({ frames := 7, cells := 0, slots := 0, locals := 162 })).room.locals := Nat.le_refl _
  have hcs : 0 ≤ (headSpec (ws_ yX0_lacksTo cX0_lacksTo 6 (some .int)) ({ frames := 7, cells := 0, slots := 0, locals := 162 })).room.cells ∧ 0 ≤ (headSpec (ws_ yX0_lacksTo cX0_lacksTo 6 (some .int)) ({ frames := 7, cells := 0, slots := 0, locals := 162 })).room.slots := ⟨Nat.zero_le _, Nat.zero_le _⟩
  have hl := lv_entry ([.ref (ad 199), .int a0, .int a1]) (n := 6) (Nat.le_of_ble_eq_true rfl)
  rw [lg_entry_eq]
  generalize (lg_sl ([.ref (ad 199), .int a0, .int a1]) ++ List.replicate (6 - (lg_sl ([.ref (ad 199), .int a0, .int a1])).length) Slot.unset).toArray = ls at hl ⊢
  have hl : lv_has ls 6 [(0, .ref (ad 199)), (1, .int a0), (2, .int a1)] := hl
  have hf : (ob1 (ldO (A 203) 5 a0) fun (v1 : Int32) =>
    ob1 (if a1 ≤ v1 then ((some (-1) : Option (Int32))) else ((some 1 : Option (Int32)))) fun (v2 : Int32) =>
    ob1 (ldO (A 203) 5 a0) fun (v4 : Int32) =>
    ob2 (x_lacksTo_L33 I A R G pl n ks a0 a1 v2 NF 0 v4) fun (v5 : Int32) (v6 : Int32) =>
    some v5) = some r := hf
  refine lv_iconst (v := 0) hx hb dX0_lacksTo_0 (by decide) ?_
  refine lv_istore_n (lv' := [(3, .int 0), (0, .ref (ad 199)), (1, .int a0), (2, .int a1)]) hx hb dX0_lacksTo_1 rfl hl (by decide) rfl (fun ls hl => ?_)
  refine lv_iload_n hx hb dX0_lacksTo_2 rfl (lv_at hl 3 rfl) ?_
  refine lv_aload_n hx hb dX0_lacksTo_3 rfl (lv_at hl 1 rfl) ?_
  refine x_get (v := .ref (ad 299)) hx hb hts hown hK hW xO199 in_X0 rfl 4 (by decide) q228 rfl rfl dX0_lacksTo_4 ?_
  refine x_get (v := .ref (ad 203)) hx hb hts hown hK hW xO299 in_X1 rfl 3 (by decide) q165 rfl rfl dX0_lacksTo_7 ?_
  refine lv_iload_n hx hb dX0_lacksTo_10 rfl (lv_at hl 2 rfl) ?_
  obtain ⟨v1, hv1, hf⟩ := ob1_e hf
  refine x_iald hx hb hK hW xA203 hv1 dX0_lacksTo_11 ?_
  obtain ⟨v2, hm2, hf⟩ := ob1_e hf
  refine w_cutL (nL := 6) (L := [(0, .ref (ad 199)), (1, .int a0), (2, .int a1), (3, .int 0)]) (pcj := 20) (st := [.int v2]) (fun ls hl => ?_) (fun K2 => ?_)
  · refine lv_istore (lv' := [(4, .int v2), (0, .ref (ad 199)), (1, .int a0), (2, .int a1), (3, .int 0)]) hx hb dX0_lacksTo_20 hl (by decide) rfl (fun ls hl => ?_)
    refine lv_aload_n hx hb dX0_lacksTo_22 rfl (lv_at hl 1 rfl) ?_
    refine x_get (v := .ref (ad 299)) hx hb hts hown hK hW xO199 in_X0 rfl 4 (by decide) q228 rfl rfl dX0_lacksTo_23 ?_
    refine x_get (v := .ref (ad 203)) hx hb hts hown hK hW xO299 in_X1 rfl 3 (by decide) q165 rfl rfl dX0_lacksTo_26 ?_
    refine lv_iload_n hx hb dX0_lacksTo_29 rfl (lv_at hl 2 rfl) ?_
    obtain ⟨v4, hv4, hf⟩ := ob1_e hf
    refine x_iald hx hb hK hW xA203 hv4 dX0_lacksTo_30 ?_
    refine lv_istore (lv' := [(5, .int v4), (4, .int v2), (0, .ref (ad 199)), (1, .int a0), (2, .int a1), (3, .int 0)]) hx hb dX0_lacksTo_31 hl (by decide) rfl (fun ls hl => ?_)
    obtain ⟨v5, v6, hq6, hf⟩ := ob2_e hf
    refine x_lacksTo_L33_w hx hb hml hown hts hK hY h0 hRf hRl hcs hB I A R G pl n ks a0 a1 v2 hR hW v5 v6 (fun ls hl => ?_) NF 0 v4 ls hq6 (lv_sub hl [2, 3, 4, 5, 1, 0] rfl)
    refine lv_iload_n hx hb dX0_lacksTo_87 rfl (lv_at hl 0 rfl) ?_
    obtain rfl := so1 hf
    exact W.iret hx hb hr (fun t ht _ => ⟨rfl, ht⟩) (fun q hq => by cases hq) dX0_lacksTo_88
  · refine lv_icmp_le (tgt := 19) hx hb dX0_lacksTo_12 (by decide) (fun c3 => ?_) (fun c3 => ?_)
    · rw [if_pos c3] at hm2
      refine lv_iconst (v := (-1)) hx hb dX0_lacksTo_19 (by decide) ?_
      obtain rfl := so1 hm2
      exact K2 ls (lv_sub hl [1, 2, 3, 0] rfl)
    · rw [if_neg c3] at hm2
      refine lv_iconst (v := 1) hx hb dX0_lacksTo_15 (by decide) ?_
      refine lv_goto (tgt := 20) hx hb dX0_lacksTo_16 (by decide) ?_
      obtain rfl := so1 hm2
      exact K2 ls (lv_sub hl [1, 2, 3, 0] rfl)
theorem x_lacksTo_ds : yX0_lacksTo.cls = RX0 ∧ yX0_lacksTo.cls ≠ "java/lang/invoke/MethodHandle" ∧ yX0_lacksTo.cls ≠ "java/lang/invoke/VarHandle" ∧ (parseMethodDescriptor yX0_lacksTo.desc).map (fun d => d.parameters.length) = some 2 := by decide +kernel
def x_gets (I : Nat → Int32) (A : Nat → Nat → Int32) (R : Nat → Option Nat) (G : Nat → Nat → Option Nat) (pl n : Nat) (ks : Nat → Nat) (a0 : Int32) (a1 : Int32) (a2 : Int32) : Option (Int32) :=
  ob1 (x_isPerson I A R G pl n ks a0) fun (v1 : Int32) =>
  if v1 = 0 then (some (-1000001)) else (ob1 (x_isPlace a1) fun (v3 : Int32) =>
    if v3 = 0 then (some (-1000001)) else (ob1 (x_isHalf a2) fun (v5 : Int32) =>
      if v5 = 0 then (some (-1000001)) else (ob1 (x_lacksTo I A R G pl n ks a0 a1) fun (v7 : Int32) =>
        ob1 (if a2 = 1 then ((some v7 : Option (Int32))) else (if v7 = 0 then ((some 1 : Option (Int32))) else ((some 0 : Option (Int32))))) fun (v8 : Int32) =>
        some v8)))
set_option maxRecDepth 100000 in
set_option maxHeartbeats 4000000 in
theorem x_gets_met (l : Launch) (D : dd_) (s0 : State) (h0 : ∀ w ∈ lw_tbl, va_Nw w s0) (ad : Nat → Nat) (X : va_W) (base : Nat) (I : Nat → Int32) (A : Nat → Nat → Int32) (R : Nat → Option Nat) (G : Nat → Nat → Option Nat) (pl n : Nat) (ks : Nat → Nat) (hR : RegX D X pl n ks) (a0 : Int32) (a1 : Int32) (a2 : Int32) (r : Int32) (hf : x_gets I A R G pl n ks a0 a1 a2 = some r) : Met l yX0_gets (ws_ yX0_gets cX0_gets 5 (some .int)) ({ frames := 8, cells := 0, slots := 0, locals := 187 }) (PcX D s0 xS ad I A R G X base [.ref (ad 199), .int a0, .int a1, .int a2]) (QcR (some (.int r))) 0 0 (fun _ => False) := by
  refine Met.ofW (cc := cX0_gets) (maxL := 5) (ret := (some .int)) (by decide) rfl ?_
  intro p e s m args below meth c s₁ B hml hv
  obtain ⟨rfl, hK, hY, hB, hW⟩ := hv
  have hx := B.exec
  have hb := B.bytes
  have hr := B.returns
  have hts := atoms_spec (ws := (ws_ yX0_gets cX0_gets 5 (some .int))) B.pre
  have hts : ∀ w ∈ lw_all, w.before _ s = true := fun w h => hts w (List.mem_cons_of_mem _ h)
  have hown : s.vm.findClass RX0 = some m.cls := findClass_of_methodNamed B.named
  have hlocks := B.notSynchronized
  have hRf : 8 ≤ (headSpec (ws_ yX0_gets cX0_gets 5 (some .int)) ({ frames := 8, cells := 0, slots := 0, locals := 187 })).room.frames := Nat.le_refl _
  have hRl : 187 ≤ (headSpec (ws_ yX0_gets cX0_gets 5 (some .int)) ({ frames := 8, cells := 0, slots := 0, locals := 187 })).room.locals := Nat.le_refl _
  have hcs : 0 ≤ (headSpec (ws_ yX0_gets cX0_gets 5 (some .int)) ({ frames := 8, cells := 0, slots := 0, locals := 187 })).room.cells ∧ 0 ≤ (headSpec (ws_ yX0_gets cX0_gets 5 (some .int)) ({ frames := 8, cells := 0, slots := 0, locals := 187 })).room.slots := ⟨Nat.zero_le _, Nat.zero_le _⟩
  have hl := lv_entry ([.ref (ad 199), .int a0, .int a1, .int a2]) (n := 5) (Nat.le_of_ble_eq_true rfl)
  rw [lg_entry_eq]
  generalize (lg_sl ([.ref (ad 199), .int a0, .int a1, .int a2]) ++ List.replicate (5 - (lg_sl ([.ref (ad 199), .int a0, .int a1, .int a2])).length) Slot.unset).toArray = ls at hl ⊢
  have hl : lv_has ls 5 [(0, .ref (ad 199)), (1, .int a0), (2, .int a1), (3, .int a2)] := hl
  have hf : (ob1 (x_isPerson I A R G pl n ks a0) fun (v1 : Int32) =>
    if v1 = 0 then (some (-1000001)) else (ob1 (x_isPlace a1) fun (v3 : Int32) =>
      if v3 = 0 then (some (-1000001)) else (ob1 (x_isHalf a2) fun (v5 : Int32) =>
        if v5 = 0 then (some (-1000001)) else (ob1 (x_lacksTo I A R G pl n ks a0 a1) fun (v7 : Int32) =>
          ob1 (if a2 = 1 then ((some v7 : Option (Int32))) else (if v7 = 0 then ((some 1 : Option (Int32))) else ((some 0 : Option (Int32))))) fun (v8 : Int32) =>
          some v8)))) = some r := hf
  refine lv_aload_n hx hb dX0_gets_0 rfl (lv_at hl 0 rfl) ?_
  refine lv_iload_n hx hb dX0_gets_1 rfl (lv_at hl 1 rfl) ?_
  obtain ⟨v1, h1, hf⟩ := ob1_e hf
  refine x_vR (ov := some (.int v1)) (D := D) (s0 := s0) (Sc := xS) (adc := ad) (Ic := I) (Ac := A) (Rc := R) (Gc := G) (Xc := X) (base := base) (As := [.int a0]) (rest := []) (b := ad 199) (C := RX0) ⟨hx, hb, hml, hown, hts⟩ (x_isPerson_met l D s0 h0 ad X base I A R G pl n ks hR a0 v1 h1) (g_cwV 1 hts (lw_V q761 q763 qs18 q76 q764) rfl rfl x_isPerson_ds ⟨Nat.le_trans (Nat.le_of_ble_eq_true rfl) hRf, Nat.le_trans (Nat.le_of_ble_eq_true rfl) hRl⟩) (x_recv hK hW xO199 rfl) hK hY hB hW hcs rfl hl.1 rfl (Nat.le_of_ble_eq_true rfl) dX0_gets_2 ?_
  refine lv_if_eq (tgt := 22) hx hb dX0_gets_5 (by decide) (fun c2 => ?_) (fun c2 => ?_)
  · rw [if_pos c2] at hf
    refine lv_ldc (v := (-1000001)) hx hb hown (hts _ q289) dX0_gets_22 ?_
    obtain rfl := so1 hf
    exact W.iret hx hb hr (fun t ht _ => ⟨rfl, ht⟩) (fun q hq => by cases hq) dX0_gets_24
  · rw [if_neg c2] at hf
    refine lv_iload_n hx hb dX0_gets_8 rfl (lv_at hl 2 rfl) ?_
    obtain ⟨v3, h3, hf⟩ := ob1_e hf
    refine x_sR (ov := some (.int v3)) (D := D) (s0 := s0) (Sc := nS) (adc := ad) (Ic := (fun _ => 0)) (Ac := (fun _ _ => 0)) (Rc := nR) (Gc := nG) (Xc := []) (base := base) (As := [.int a1]) (rest := []) ⟨hx, hb, hml, hown, hts⟩ (x_isPlace_met l D s0 h0 ad [] base a1 v3 h3) (va_cwS 1 hts (lw_S q840 q841 q76 q842) rfl rfl rfl x_isPlace_ds.2 ⟨Nat.le_trans (Nat.le_of_ble_eq_true rfl) hRf, Nat.le_trans (Nat.le_of_ble_eq_true rfl) hRl⟩) hK hY hB WX_nil hcs rfl hl.1 rfl (Nat.le_of_ble_eq_true rfl) dX0_gets_9 ?_
    refine lv_if_eq (tgt := 22) hx hb dX0_gets_12 (by decide) (fun c4 => ?_) (fun c4 => ?_)
    · rw [if_pos c4] at hf
      refine lv_ldc (v := (-1000001)) hx hb hown (hts _ q289) dX0_gets_22 ?_
      obtain rfl := so1 hf
      exact W.iret hx hb hr (fun t ht _ => ⟨rfl, ht⟩) (fun q hq => by cases hq) dX0_gets_24
    · rw [if_neg c4] at hf
      refine lv_iload_n hx hb dX0_gets_15 rfl (lv_at hl 3 rfl) ?_
      obtain ⟨v5, h5, hf⟩ := ob1_e hf
      refine x_sR (ov := some (.int v5)) (D := D) (s0 := s0) (Sc := nS) (adc := ad) (Ic := (fun _ => 0)) (Ac := (fun _ _ => 0)) (Rc := nR) (Gc := nG) (Xc := []) (base := base) (As := [.int a2]) (rest := []) ⟨hx, hb, hml, hown, hts⟩ (x_isHalf_met l D s0 h0 ad [] base a2 v5 h5) (va_cwS 1 hts (lw_S q910 q911 q76 q912) rfl rfl rfl x_isHalf_ds.2 ⟨Nat.le_trans (Nat.le_of_ble_eq_true rfl) hRf, Nat.le_trans (Nat.le_of_ble_eq_true rfl) hRl⟩) hK hY hB WX_nil hcs rfl hl.1 rfl (Nat.le_of_ble_eq_true rfl) dX0_gets_16 ?_
      refine lv_if_ne (tgt := 25) hx hb dX0_gets_19 (by decide) (fun c6 => ?_) (fun c6 => ?_)
      · rw [if_neg c6] at hf
        refine lv_aload_n hx hb dX0_gets_25 rfl (lv_at hl 0 rfl) ?_
        refine lv_iload_n hx hb dX0_gets_26 rfl (lv_at hl 1 rfl) ?_
        refine lv_iload_n hx hb dX0_gets_27 rfl (lv_at hl 2 rfl) ?_
        obtain ⟨v7, h7, hf⟩ := ob1_e hf
        refine x_vR (ov := some (.int v7)) (D := D) (s0 := s0) (Sc := xS) (adc := ad) (Ic := I) (Ac := A) (Rc := R) (Gc := G) (Xc := X) (base := base) (As := [.int a0, .int a1]) (rest := []) (b := ad 199) (C := RX0) ⟨hx, hb, hml, hown, hts⟩ (x_lacksTo_met l D s0 h0 ad X base I A R G pl n ks hR a0 a1 v7 h7) (g_cwV 2 hts (lw_V q913 q915 qs22 q76 q916) rfl rfl x_lacksTo_ds ⟨Nat.le_trans (Nat.le_of_ble_eq_true rfl) hRf, Nat.le_trans (Nat.le_of_ble_eq_true rfl) hRl⟩) (x_recv hK hW xO199 rfl) hK hY hB hW hcs rfl hl.1 rfl (Nat.le_of_ble_eq_true rfl) dX0_gets_28 ?_
        refine lv_istore (lv' := [(4, .int v7), (0, .ref (ad 199)), (1, .int a0), (2, .int a1), (3, .int a2)]) hx hb dX0_gets_31 hl (by decide) rfl (fun ls hl => ?_)
        refine lv_iload_n hx hb dX0_gets_33 rfl (lv_at hl 4 rfl) ?_
        refine lv_iconst (v := 1) hx hb dX0_gets_34 (by decide) ?_
        obtain ⟨v8, hm8, hf⟩ := ob1_e hf
        refine w_cutL (nL := 5) (L := []) (pcj := 53) (st := [.int v8]) (fun ls hl => ?_) (fun K8 => ?_)
        · obtain rfl := so1 hf
          exact W.iret hx hb hr (fun t ht _ => ⟨rfl, ht⟩) (fun q hq => by cases hq) dX0_gets_53
        · refine lv_icmp_ne (tgt := 43) hx hb dX0_gets_35 (by decide) (fun c9 => ?_) (fun c9 => ?_)
          · rw [if_neg c9] at hm8
            refine lv_iload hx hb dX0_gets_43 (lv_at hl 0 rfl) ?_
            refine lv_if_ne (tgt := 52) hx hb dX0_gets_45 (by decide) (fun c10 => ?_) (fun c10 => ?_)
            · rw [if_neg c10] at hm8
              refine lv_iconst (v := 0) hx hb dX0_gets_52 (by decide) ?_
              obtain rfl := so1 hm8
              exact K8 ls (lv_sub hl [] rfl)
            · rw [if_pos c10] at hm8
              refine lv_iconst (v := 1) hx hb dX0_gets_48 (by decide) ?_
              refine lv_goto (tgt := 53) hx hb dX0_gets_49 (by decide) ?_
              obtain rfl := so1 hm8
              exact K8 ls (lv_sub hl [] rfl)
          · rw [if_pos c9] at hm8
            refine lv_iload hx hb dX0_gets_38 (lv_at hl 0 rfl) ?_
            refine lv_goto (tgt := 53) hx hb dX0_gets_40 (by decide) ?_
            obtain rfl := so1 hm8
            exact K8 ls (lv_sub hl [] rfl)
      · rw [if_pos c6] at hf
        refine lv_ldc (v := (-1000001)) hx hb hown (hts _ q289) dX0_gets_22 ?_
        obtain rfl := so1 hf
        exact W.iret hx hb hr (fun t ht _ => ⟨rfl, ht⟩) (fun q hq => by cases hq) dX0_gets_24
theorem x_gets_ds : yX0_gets.cls = RX0 ∧ yX0_gets.cls ≠ "java/lang/invoke/MethodHandle" ∧ yX0_gets.cls ≠ "java/lang/invoke/VarHandle" ∧ (parseMethodDescriptor yX0_gets.desc).map (fun d => d.parameters.length) = some 3 := by decide +kernel
def x_openOf_L4 (I : Nat → Int32) (A : Nat → Nat → Int32) (R : Nat → Option Nat) (G : Nat → Nat → Option Nat) (pl n : Nat) (ks : Nat → Nat) (u1 : Int32) : Nat → Int32 → Int32 → Option (Int32 × Int32)
  | 0, _, _ => none
  | k + 1, x2, x3 =>
    if (I 204) ≤ x3 then (some (x2, x3)) else (ob1 (ldO (A 205) 8 x3) fun (v2 : Int32) =>
      ob1 (if v2 = u1 then (ob1 (x_has (I 210) x3) fun (v5 : Int32) =>
          if v5 = 0 then ((some ((1 : Int32) <<< (x3 &&& 31)) : Option (Int32))) else ((some 0 : Option (Int32)))) else ((some 0 : Option (Int32)))) fun (v3 : Int32) =>
      x_openOf_L4 I A R G pl n ks u1 k (x2 ||| v3) (x3 + 1))
set_option maxRecDepth 100000 in
set_option maxHeartbeats 4000000 in
theorem x_openOf_L4_w {p : Program} {l : Launch} {e : Env} {R0 : Room} {s : State} {m : MethodId} {args : Array Value} {below : List Frame} {meth : Method} {c : Code} {cells slots : Nat} {Q : State → Prop} {D : dd_} {s0 : State} {ad : Nat → Nat} {X : va_W} {base : Nat} (hx : p.tables.exec = Jvm.exec) (hb : c.code = cX0_openOf) (hml : c.maxLocals = 4) (hown : s.vm.findClass RX0 = some m.cls) (hts : ∀ w ∈ lw_all, w.before args s = true) (hK : Kx D s) (hY : s0.WarmedH s.vm) (h0 : ∀ w ∈ lw_tbl, va_Nw w s0) (hRf : 2 ≤ R0.frames) (hRl : 53 ≤ R0.locals) (hcs : cells ≤ R0.cells ∧ slots ≤ R0.slots) {H : Heap} {locs : List Loc} (hB : base ≤ H.size) (I : Nat → Int32) (A : Nat → Nat → Int32) (R : Nat → Option Nat) (G : Nat → Nat → Option Nat) (pl n : Nat) (ks : Nat → Nat) (u1 : Int32) (hR : RegX D X pl n ks) (hW : WX D xS ad I A R G X H) (y2 : Int32) (y3 : Int32) (KX : ∀ (ls : Array Slot), lv_has ls 4 [(2, .int y2)] → W p l e R0 s m args below meth c H locs cells slots Q (F0 m 58 ls [])) : ∀ (k : Nat) (x2 : Int32) (x3 : Int32) (ls : Array Slot), x_openOf_L4 I A R G pl n ks u1 k x2 x3 = some (y2, y3) → lv_has ls 4 [(0, .ref (ad 199)), (1, .int u1), (2, .int x2), (3, .int x3)] → W p l e R0 s m args below meth c H locs cells slots Q (F0 m 4 ls []) := by
  intro k
  induction k with
  | zero =>
    intro x2 x3 ls hf
    exact nomatch (show (none : Option (Int32 × Int32)) = some (y2, y3) from hf)
  | succ k ih =>
    intro x2 x3 ls hf hl
    have hf : (if (I 204) ≤ x3 then (some (x2, x3)) else (ob1 (ldO (A 205) 8 x3) fun (v2 : Int32) =>
          ob1 (if v2 = u1 then (ob1 (x_has (I 210) x3) fun (v5 : Int32) =>
              if v5 = 0 then ((some ((1 : Int32) <<< (x3 &&& 31)) : Option (Int32))) else ((some 0 : Option (Int32)))) else ((some 0 : Option (Int32)))) fun (v3 : Int32) =>
          x_openOf_L4 I A R G pl n ks u1 k (x2 ||| v3) (x3 + 1))) = some (y2, y3) := hf
    refine lv_iload_n hx hb dX0_openOf_4 rfl (lv_at hl 3 rfl) ?_
    refine lv_aload_n hx hb dX0_openOf_5 rfl (lv_at hl 0 rfl) ?_
    refine x_get (v := .ref (ad 299)) hx hb hts hown hK hW xO199 in_X0 rfl 4 (by decide) q228 rfl rfl dX0_openOf_6 ?_
    refine x_get (v := .int (I 204)) hx hb hts hown hK hW xO299 in_X1 rfl 4 (by decide) q168 rfl rfl dX0_openOf_9 ?_
    refine lv_icmp_ge (tgt := 58) hx hb dX0_openOf_12 (by decide) (fun c1 => ?_) (fun c1 => ?_)
    · rw [if_pos c1] at hf
      obtain ⟨rfl, rfl⟩ := so2 hf
      exact KX ls (lv_sub hl [2] rfl)
    · rw [if_neg c1] at hf
      refine lv_iload_n hx hb dX0_openOf_15 rfl (lv_at hl 2 rfl) ?_
      refine lv_aload_n hx hb dX0_openOf_16 rfl (lv_at hl 0 rfl) ?_
      refine x_get (v := .ref (ad 299)) hx hb hts hown hK hW xO199 in_X0 rfl 4 (by decide) q228 rfl rfl dX0_openOf_17 ?_
      refine x_get (v := .ref (ad 205)) hx hb hts hown hK hW xO299 in_X1 rfl 5 (by decide) q170 rfl rfl dX0_openOf_20 ?_
      refine lv_iload_n hx hb dX0_openOf_23 rfl (lv_at hl 3 rfl) ?_
      obtain ⟨v2, hv2, hf⟩ := ob1_e hf
      refine x_iald hx hb hK hW xA205 hv2 dX0_openOf_24 ?_
      refine lv_iload_n hx hb dX0_openOf_25 rfl (lv_at hl 1 rfl) ?_
      obtain ⟨v3, hm3, hf⟩ := ob1_e hf
      refine w_cutL (nL := 4) (L := [(0, .ref (ad 199)), (1, .int u1), (3, .int x3)]) (pcj := 50) (st := [.int v3, .int x2]) (fun ls hl => ?_) (fun K3 => ?_)
      · refine lv_ior hx hb dX0_openOf_50 ?_
        refine lv_istore_n (lv' := [(2, .int (x2 ||| v3)), (0, .ref (ad 199)), (1, .int u1), (3, .int x3)]) hx hb dX0_openOf_51 rfl hl (by decide) rfl (fun ls hl => ?_)
        refine lv_iinc (v := x3 + 1) (lv' := [(3, .int (x3 + 1)), (2, .int (x2 ||| v3)), (0, .ref (ad 199)), (1, .int u1)]) hx hb dX0_openOf_52 hl (k := 3) rfl (by rfl) (by decide) rfl (fun ls hl => ?_)
        refine lv_goto (tgt := 4) hx hb dX0_openOf_55 (by decide) ?_
        exact ih (x2 ||| v3) (x3 + 1) ls hf (lv_sub hl [2, 3, 1, 0] rfl)
      · refine lv_icmp_ne (tgt := 49) hx hb dX0_openOf_26 (by decide) (fun c4 => ?_) (fun c4 => ?_)
        · rw [if_neg c4] at hm3
          refine lv_iconst (v := 0) hx hb dX0_openOf_49 (by decide) ?_
          obtain rfl := so1 hm3
          exact K3 ls (lv_sub hl [0, 1, 3] rfl)
        · rw [if_pos c4] at hm3
          refine lv_aload_n hx hb dX0_openOf_29 rfl (lv_at hl 0 rfl) ?_
          refine x_get (v := .ref (ad 299)) hx hb hts hown hK hW xO199 in_X0 rfl 4 (by decide) q228 rfl rfl dX0_openOf_30 ?_
          refine x_get (v := .int (I 210)) hx hb hts hown hK hW xO299 in_X1 rfl 10 (by decide) q180 rfl rfl dX0_openOf_33 ?_
          refine lv_iload_n hx hb dX0_openOf_36 rfl (lv_at hl 3 rfl) ?_
          obtain ⟨v5, h5, hm3⟩ := ob1_e hm3
          refine x_sR (ov := some (.int v5)) (D := D) (s0 := s0) (Sc := nS) (adc := ad) (Ic := (fun _ => 0)) (Ac := (fun _ _ => 0)) (Rc := nR) (Gc := nG) (Xc := []) (base := base) (As := [.int (I 210), .int x3]) (rest := [.int x2]) ⟨hx, hb, hml, hown, hts⟩ (x_has_met l D s0 h0 ad [] base (I 210) x3 v5 h5) (va_cwS 2 hts (lw_S q853 q784 q76 q785) rfl rfl rfl x_has_ds.2 ⟨Nat.le_trans (Nat.le_of_ble_eq_true rfl) hRf, Nat.le_trans (Nat.le_of_ble_eq_true rfl) hRl⟩) hK hY hB WX_nil hcs rfl hl.1 rfl (Nat.le_of_ble_eq_true rfl) dX0_openOf_37 ?_
          refine lv_if_ne (tgt := 49) hx hb dX0_openOf_40 (by decide) (fun c6 => ?_) (fun c6 => ?_)
          · rw [if_neg c6] at hm3
            refine lv_iconst (v := 0) hx hb dX0_openOf_49 (by decide) ?_
            obtain rfl := so1 hm3
            exact K3 ls (lv_sub hl [0, 1, 3] rfl)
          · rw [if_pos c6] at hm3
            refine lv_iconst (v := 1) hx hb dX0_openOf_43 (by decide) ?_
            refine lv_iload_n hx hb dX0_openOf_44 rfl (lv_at hl 3 rfl) ?_
            refine lv_ishl hx hb dX0_openOf_45 ?_
            refine lv_goto (tgt := 50) hx hb dX0_openOf_46 (by decide) ?_
            obtain rfl := so1 hm3
            exact K3 ls (lv_sub hl [0, 1, 3] rfl)
def x_openOf (I : Nat → Int32) (A : Nat → Nat → Int32) (R : Nat → Option Nat) (G : Nat → Nat → Option Nat) (pl n : Nat) (ks : Nat → Nat) (a0 : Int32) : Option (Int32) :=
  ob2 (x_openOf_L4 I A R G pl n ks a0 NF 0 0) fun (v1 : Int32) (v2 : Int32) =>
  some v1
set_option maxRecDepth 100000 in
set_option maxHeartbeats 4000000 in
theorem x_openOf_met (l : Launch) (D : dd_) (s0 : State) (h0 : ∀ w ∈ lw_tbl, va_Nw w s0) (ad : Nat → Nat) (X : va_W) (base : Nat) (I : Nat → Int32) (A : Nat → Nat → Int32) (R : Nat → Option Nat) (G : Nat → Nat → Option Nat) (pl n : Nat) (ks : Nat → Nat) (hR : RegX D X pl n ks) (a0 : Int32) (r : Int32) (hf : x_openOf I A R G pl n ks a0 = some r) : Met l yX0_openOf (ws_ yX0_openOf cX0_openOf 4 (some .int)) ({ frames := 2, cells := 0, slots := 0, locals := 53 }) (PcX D s0 xS ad I A R G X base [.ref (ad 199), .int a0]) (QcR (some (.int r))) 0 0 (fun _ => False) := by
  refine Met.ofW (cc := cX0_openOf) (maxL := 4) (ret := (some .int)) (by decide) rfl ?_
  intro p e s m args below meth c s₁ B hml hv
  obtain ⟨rfl, hK, hY, hB, hW⟩ := hv
  have hx := B.exec
  have hb := B.bytes
  have hr := B.returns
  have hts := atoms_spec (ws := (ws_ yX0_openOf cX0_openOf 4 (some .int))) B.pre
  have hts : ∀ w ∈ lw_all, w.before _ s = true := fun w h => hts w (List.mem_cons_of_mem _ h)
  have hown : s.vm.findClass RX0 = some m.cls := findClass_of_methodNamed B.named
  have hlocks := B.notSynchronized
  have hRf : 2 ≤ (headSpec (ws_ yX0_openOf cX0_openOf 4 (some .int)) ({ frames := 2, cells := 0, slots := 0, locals := 53 })).room.frames := Nat.le_refl _
  have hRl : 53 ≤ (headSpec (ws_ yX0_openOf cX0_openOf 4 (some .int)) ({ frames := 2, cells := 0, slots := 0, locals := 53 })).room.locals := Nat.le_refl _
  have hcs : 0 ≤ (headSpec (ws_ yX0_openOf cX0_openOf 4 (some .int)) ({ frames := 2, cells := 0, slots := 0, locals := 53 })).room.cells ∧ 0 ≤ (headSpec (ws_ yX0_openOf cX0_openOf 4 (some .int)) ({ frames := 2, cells := 0, slots := 0, locals := 53 })).room.slots := ⟨Nat.zero_le _, Nat.zero_le _⟩
  have hl := lv_entry ([.ref (ad 199), .int a0]) (n := 4) (Nat.le_of_ble_eq_true rfl)
  rw [lg_entry_eq]
  generalize (lg_sl ([.ref (ad 199), .int a0]) ++ List.replicate (4 - (lg_sl ([.ref (ad 199), .int a0])).length) Slot.unset).toArray = ls at hl ⊢
  have hl : lv_has ls 4 [(0, .ref (ad 199)), (1, .int a0)] := hl
  have hf : (ob2 (x_openOf_L4 I A R G pl n ks a0 NF 0 0) fun (v1 : Int32) (v2 : Int32) =>
    some v1) = some r := hf
  refine lv_iconst (v := 0) hx hb dX0_openOf_0 (by decide) ?_
  refine lv_istore_n (lv' := [(2, .int 0), (0, .ref (ad 199)), (1, .int a0)]) hx hb dX0_openOf_1 rfl hl (by decide) rfl (fun ls hl => ?_)
  refine lv_iconst (v := 0) hx hb dX0_openOf_2 (by decide) ?_
  refine lv_istore_n (lv' := [(3, .int 0), (2, .int 0), (0, .ref (ad 199)), (1, .int a0)]) hx hb dX0_openOf_3 rfl hl (by decide) rfl (fun ls hl => ?_)
  obtain ⟨v1, v2, hq2, hf⟩ := ob2_e hf
  refine x_openOf_L4_w hx hb hml hown hts hK hY h0 hRf hRl hcs hB I A R G pl n ks a0 hR hW v1 v2 (fun ls hl => ?_) NF 0 0 ls hq2 (lv_sub hl [2, 3, 1, 0] rfl)
  refine lv_iload_n hx hb dX0_openOf_58 rfl (lv_at hl 0 rfl) ?_
  obtain rfl := so1 hf
  exact W.iret hx hb hr (fun t ht _ => ⟨rfl, ht⟩) (fun q hq => by cases hq) dX0_openOf_59
theorem x_openOf_ds : yX0_openOf.cls = RX0 ∧ yX0_openOf.cls ≠ "java/lang/invoke/MethodHandle" ∧ yX0_openOf.cls ≠ "java/lang/invoke/VarHandle" ∧ (parseMethodDescriptor yX0_openOf.desc).map (fun d => d.parameters.length) = some 1 := by decide +kernel
def x_weightOf_L4 (I : Nat → Int32) (A : Nat → Nat → Int32) (R : Nat → Option Nat) (G : Nat → Nat → Option Nat) (pl n : Nat) (ks : Nat → Nat) (u1 : Int32) : Nat → Int32 → Int32 → Option (Int32 × Int32)
  | 0, _, _ => none
  | k + 1, x2, x3 =>
    ob1 (p_many (sh 200 I) (sh 200 A) (sh 200 R) pl n ks) fun (v1 : Int32) =>
    if v1 ≤ x3 then (some (x2, x3)) else (ob1 (x_has u1 x3) fun (v3 : Int32) =>
      ob1 (if v3 = 0 then ((some 0 : Option (Int32))) else (ob1 (p_load (sh 200 I) (sh 200 A) (sh 200 R) pl n ks x3) fun (v6 : Int32) =>
          (some (v6 + 10) : Option (Int32)))) fun (v4 : Int32) =>
      x_weightOf_L4 I A R G pl n ks u1 k (x2 + v4) (x3 + 1))
set_option maxRecDepth 100000 in
set_option maxHeartbeats 4000000 in
theorem x_weightOf_L4_w {p : Program} {l : Launch} {e : Env} {R0 : Room} {s : State} {m : MethodId} {args : Array Value} {below : List Frame} {meth : Method} {c : Code} {cells slots : Nat} {Q : State → Prop} {D : dd_} {s0 : State} {ad : Nat → Nat} {X : va_W} {base : Nat} (hx : p.tables.exec = Jvm.exec) (hb : c.code = cX0_weightOf) (hml : c.maxLocals = 4) (hown : s.vm.findClass RX0 = some m.cls) (hts : ∀ w ∈ lw_all, w.before args s = true) (hK : Kx D s) (hY : s0.WarmedH s.vm) (h0 : ∀ w ∈ lw_tbl, va_Nw w s0) (hRf : 7 ≤ R0.frames) (hRl : 162 ≤ R0.locals) (hcs : cells ≤ R0.cells ∧ slots ≤ R0.slots) {H : Heap} {locs : List Loc} (hB : base ≤ H.size) (I : Nat → Int32) (A : Nat → Nat → Int32) (R : Nat → Option Nat) (G : Nat → Nat → Option Nat) (pl n : Nat) (ks : Nat → Nat) (u1 : Int32) (hR : RegX D X pl n ks) (hW : WX D xS ad I A R G X H) (y2 : Int32) (y3 : Int32) (KX : ∀ (ls : Array Slot), lv_has ls 4 [(2, .int y2)] → W p l e R0 s m args below meth c H locs cells slots Q (F0 m 47 ls [])) : ∀ (k : Nat) (x2 : Int32) (x3 : Int32) (ls : Array Slot), x_weightOf_L4 I A R G pl n ks u1 k x2 x3 = some (y2, y3) → lv_has ls 4 [(0, .ref (ad 199)), (1, .int u1), (2, .int x2), (3, .int x3)] → W p l e R0 s m args below meth c H locs cells slots Q (F0 m 4 ls []) := by
  intro k
  induction k with
  | zero =>
    intro x2 x3 ls hf
    exact nomatch (show (none : Option (Int32 × Int32)) = some (y2, y3) from hf)
  | succ k ih =>
    intro x2 x3 ls hf hl
    have hf : (ob1 (p_many (sh 200 I) (sh 200 A) (sh 200 R) pl n ks) fun (v1 : Int32) =>
        if v1 ≤ x3 then (some (x2, x3)) else (ob1 (x_has u1 x3) fun (v3 : Int32) =>
          ob1 (if v3 = 0 then ((some 0 : Option (Int32))) else (ob1 (p_load (sh 200 I) (sh 200 A) (sh 200 R) pl n ks x3) fun (v6 : Int32) =>
              (some (v6 + 10) : Option (Int32)))) fun (v4 : Int32) =>
          x_weightOf_L4 I A R G pl n ks u1 k (x2 + v4) (x3 + 1))) = some (y2, y3) := hf
    refine lv_iload_n hx hb dX0_weightOf_4 rfl (lv_at hl 3 rfl) ?_
    refine lv_aload_n hx hb dX0_weightOf_5 rfl (lv_at hl 0 rfl) ?_
    refine x_get (v := .ref (ad 299)) hx hb hts hown hK hW xO199 in_X0 rfl 4 (by decide) q228 rfl rfl dX0_weightOf_6 ?_
    obtain ⟨v1, h1, hf⟩ := ob1_e hf
    refine x_vR (ov := some (.int v1)) (D := D) (s0 := s0) (Sc := pS) (adc := (sh 200 ad)) (Ic := (sh 200 I)) (Ac := (sh 200 A)) (Rc := (sh 200 R)) (Gc := nG) (Xc := (xr200 D ad I A R G X)) (base := base) (As := []) (rest := [.int x3]) (b := ad 299) (C := RX1) ⟨hx, hb, hml, hown, hts⟩ (p_many_met l D s0 h0 (sh 200 ad) (xr200 D ad I A R G X) base (sh 200 I) (sh 200 A) (sh 200 R) pl n ks (xrg200 hR)  v1 h1) (g_cwV 0 hts (lw_V q747 q602 q603 q77 q604) rfl rfl p_many_ds ⟨Nat.le_trans (Nat.le_of_ble_eq_true rfl) hRf, Nat.le_trans (Nat.le_of_ble_eq_true rfl) hRl⟩) (x_recv hK hW xO299 rfl) hK hY hB (xw200 hW) hcs rfl hl.1 rfl (Nat.le_of_ble_eq_true rfl) dX0_weightOf_9 ?_
    refine lv_icmp_ge (tgt := 47) hx hb dX0_weightOf_12 (by decide) (fun c2 => ?_) (fun c2 => ?_)
    · rw [if_pos c2] at hf
      obtain ⟨rfl, rfl⟩ := so2 hf
      exact KX ls (lv_sub hl [2] rfl)
    · rw [if_neg c2] at hf
      refine lv_iload_n hx hb dX0_weightOf_15 rfl (lv_at hl 2 rfl) ?_
      refine lv_iload_n hx hb dX0_weightOf_16 rfl (lv_at hl 1 rfl) ?_
      refine lv_iload_n hx hb dX0_weightOf_17 rfl (lv_at hl 3 rfl) ?_
      obtain ⟨v3, h3, hf⟩ := ob1_e hf
      refine x_sR (ov := some (.int v3)) (D := D) (s0 := s0) (Sc := nS) (adc := ad) (Ic := (fun _ => 0)) (Ac := (fun _ _ => 0)) (Rc := nR) (Gc := nG) (Xc := []) (base := base) (As := [.int u1, .int x3]) (rest := [.int x2]) ⟨hx, hb, hml, hown, hts⟩ (x_has_met l D s0 h0 ad [] base u1 x3 v3 h3) (va_cwS 2 hts (lw_S q853 q784 q76 q785) rfl rfl rfl x_has_ds.2 ⟨Nat.le_trans (Nat.le_of_ble_eq_true rfl) hRf, Nat.le_trans (Nat.le_of_ble_eq_true rfl) hRl⟩) hK hY hB WX_nil hcs rfl hl.1 rfl (Nat.le_of_ble_eq_true rfl) dX0_weightOf_18 ?_
      obtain ⟨v4, hm4, hf⟩ := ob1_e hf
      refine w_cutL (nL := 4) (L := [(0, .ref (ad 199)), (1, .int u1), (3, .int x3)]) (pcj := 39) (st := [.int v4, .int x2]) (fun ls hl => ?_) (fun K4 => ?_)
      · refine lv_iadd hx hb dX0_weightOf_39 ?_
        refine lv_istore_n (lv' := [(2, .int (x2 + v4)), (0, .ref (ad 199)), (1, .int u1), (3, .int x3)]) hx hb dX0_weightOf_40 rfl hl (by decide) rfl (fun ls hl => ?_)
        refine lv_iinc (v := x3 + 1) (lv' := [(3, .int (x3 + 1)), (2, .int (x2 + v4)), (0, .ref (ad 199)), (1, .int u1)]) hx hb dX0_weightOf_41 hl (k := 3) rfl (by rfl) (by decide) rfl (fun ls hl => ?_)
        refine lv_goto (tgt := 4) hx hb dX0_weightOf_44 (by decide) ?_
        exact ih (x2 + v4) (x3 + 1) ls hf (lv_sub hl [2, 3, 1, 0] rfl)
      · refine lv_if_eq (tgt := 38) hx hb dX0_weightOf_21 (by decide) (fun c5 => ?_) (fun c5 => ?_)
        · rw [if_pos c5] at hm4
          refine lv_iconst (v := 0) hx hb dX0_weightOf_38 (by decide) ?_
          obtain rfl := so1 hm4
          exact K4 ls (lv_sub hl [0, 1, 3] rfl)
        · rw [if_neg c5] at hm4
          refine lv_aload_n hx hb dX0_weightOf_24 rfl (lv_at hl 0 rfl) ?_
          refine x_get (v := .ref (ad 299)) hx hb hts hown hK hW xO199 in_X0 rfl 4 (by decide) q228 rfl rfl dX0_weightOf_25 ?_
          refine lv_iload_n hx hb dX0_weightOf_28 rfl (lv_at hl 3 rfl) ?_
          obtain ⟨v6, h6, hm4⟩ := ob1_e hm4
          refine x_vR (ov := some (.int v6)) (D := D) (s0 := s0) (Sc := pS) (adc := (sh 200 ad)) (Ic := (sh 200 I)) (Ac := (sh 200 A)) (Rc := (sh 200 R)) (Gc := nG) (Xc := (xr200 D ad I A R G X)) (base := base) (As := [.int x3]) (rest := [.int x2]) (b := ad 299) (C := RX1) ⟨hx, hb, hml, hown, hts⟩ (p_load_met l D s0 h0 (sh 200 ad) (xr200 D ad I A R G X) base (sh 200 I) (sh 200 A) (sh 200 R) pl n ks (xrg200 hR) x3 v6 h6) (g_cwV 1 hts (lw_V q858 q772 q773 q77 q774) rfl rfl p_load_ds ⟨Nat.le_trans (Nat.le_of_ble_eq_true rfl) hRf, Nat.le_trans (Nat.le_of_ble_eq_true rfl) hRl⟩) (x_recv hK hW xO299 rfl) hK hY hB (xw200 hW) hcs rfl hl.1 rfl (Nat.le_of_ble_eq_true rfl) dX0_weightOf_29 ?_
          refine lv_bipush (v := 10) hx hb dX0_weightOf_32 (by decide) ?_
          refine lv_iadd hx hb dX0_weightOf_34 ?_
          refine lv_goto (tgt := 39) hx hb dX0_weightOf_35 (by decide) ?_
          obtain rfl := so1 hm4
          exact K4 ls (lv_sub hl [0, 1, 3] rfl)
def x_weightOf (I : Nat → Int32) (A : Nat → Nat → Int32) (R : Nat → Option Nat) (G : Nat → Nat → Option Nat) (pl n : Nat) (ks : Nat → Nat) (a0 : Int32) : Option (Int32) :=
  ob2 (x_weightOf_L4 I A R G pl n ks a0 NF 0 0) fun (v1 : Int32) (v2 : Int32) =>
  some v1
set_option maxRecDepth 100000 in
set_option maxHeartbeats 4000000 in
theorem x_weightOf_met (l : Launch) (D : dd_) (s0 : State) (h0 : ∀ w ∈ lw_tbl, va_Nw w s0) (ad : Nat → Nat) (X : va_W) (base : Nat) (I : Nat → Int32) (A : Nat → Nat → Int32) (R : Nat → Option Nat) (G : Nat → Nat → Option Nat) (pl n : Nat) (ks : Nat → Nat) (hR : RegX D X pl n ks) (a0 : Int32) (r : Int32) (hf : x_weightOf I A R G pl n ks a0 = some r) : Met l yX0_weightOf (ws_ yX0_weightOf cX0_weightOf 4 (some .int)) ({ frames := 7, cells := 0, slots := 0, locals := 162 }) (PcX D s0 xS ad I A R G X base [.ref (ad 199), .int a0]) (QcR (some (.int r))) 0 0 (fun _ => False) := by
  refine Met.ofW (cc := cX0_weightOf) (maxL := 4) (ret := (some .int)) (by decide) rfl ?_
  intro p e s m args below meth c s₁ B hml hv
  obtain ⟨rfl, hK, hY, hB, hW⟩ := hv
  have hx := B.exec
  have hb := B.bytes
  have hr := B.returns
  have hts := atoms_spec (ws := (ws_ yX0_weightOf cX0_weightOf 4 (some .int))) B.pre
  have hts : ∀ w ∈ lw_all, w.before _ s = true := fun w h => hts w (List.mem_cons_of_mem _ h)
  have hown : s.vm.findClass RX0 = some m.cls := findClass_of_methodNamed B.named
  have hlocks := B.notSynchronized
  have hRf : 7 ≤ (headSpec (ws_ yX0_weightOf cX0_weightOf 4 (some .int)) ({ frames := 7, cells := 0, slots := 0, locals := 162 })).room.frames := Nat.le_refl _
  have hRl : 162 ≤ (headSpec (ws_ yX0_weightOf cX0_weightOf 4 (some .int)) ({ frames := 7, cells := 0, slots := 0, locals := 162 })).room.locals := Nat.le_refl _
  have hcs : 0 ≤ (headSpec (ws_ yX0_weightOf cX0_weightOf 4 (some .int)) ({ frames := 7, cells := 0, slots := 0, locals := 162 })).room.cells ∧ 0 ≤ (headSpec (ws_ yX0_weightOf cX0_weightOf 4 (some .int)) ({ frames := 7, cells := 0, slots := 0, locals := 162 })).room.slots := ⟨Nat.zero_le _, Nat.zero_le _⟩
  have hl := lv_entry ([.ref (ad 199), .int a0]) (n := 4) (Nat.le_of_ble_eq_true rfl)
  rw [lg_entry_eq]
  generalize (lg_sl ([.ref (ad 199), .int a0]) ++ List.replicate (4 - (lg_sl ([.ref (ad 199), .int a0])).length) Slot.unset).toArray = ls at hl ⊢
  have hl : lv_has ls 4 [(0, .ref (ad 199)), (1, .int a0)] := hl
  have hf : (ob2 (x_weightOf_L4 I A R G pl n ks a0 NF 0 0) fun (v1 : Int32) (v2 : Int32) =>
    some v1) = some r := hf
  refine lv_iconst (v := 0) hx hb dX0_weightOf_0 (by decide) ?_
  refine lv_istore_n (lv' := [(2, .int 0), (0, .ref (ad 199)), (1, .int a0)]) hx hb dX0_weightOf_1 rfl hl (by decide) rfl (fun ls hl => ?_)
  refine lv_iconst (v := 0) hx hb dX0_weightOf_2 (by decide) ?_
  refine lv_istore_n (lv' := [(3, .int 0), (2, .int 0), (0, .ref (ad 199)), (1, .int a0)]) hx hb dX0_weightOf_3 rfl hl (by decide) rfl (fun ls hl => ?_)
  obtain ⟨v1, v2, hq2, hf⟩ := ob2_e hf
  refine x_weightOf_L4_w hx hb hml hown hts hK hY h0 hRf hRl hcs hB I A R G pl n ks a0 hR hW v1 v2 (fun ls hl => ?_) NF 0 0 ls hq2 (lv_sub hl [2, 3, 1, 0] rfl)
  refine lv_iload_n hx hb dX0_weightOf_47 rfl (lv_at hl 0 rfl) ?_
  obtain rfl := so1 hf
  exact W.iret hx hb hr (fun t ht _ => ⟨rfl, ht⟩) (fun q hq => by cases hq) dX0_weightOf_48
theorem x_weightOf_ds : yX0_weightOf.cls = RX0 ∧ yX0_weightOf.cls ≠ "java/lang/invoke/MethodHandle" ∧ yX0_weightOf.cls ≠ "java/lang/invoke/VarHandle" ∧ (parseMethodDescriptor yX0_weightOf.desc).map (fun d => d.parameters.length) = some 1 := by decide +kernel
def x_promised_L5 (I : Nat → Int32) (A : Nat → Nat → Int32) (R : Nat → Option Nat) (G : Nat → Nat → Option Nat) (pl n : Nat) (ks : Nat → Nat) (u1 : Int32) (u2 : Int32) : Nat → Int32 → Int32 → Option (Int32 × Int32)
  | 0, _, _ => none
  | k + 1, x3, x4 =>
    if (I 204) ≤ x4 then (some (x3, x4)) else (ob1 (ldO (A 205) 8 x4) fun (v2 : Int32) =>
      ob1 (if v2 = u1 then (ob1 (ldO (A 206) 8 x4) fun (v5 : Int32) =>
          if v5 = u2 then (ob1 (p_pounds (sh 200 I) (sh 200 A) (sh 200 R) pl n ks x4) fun (v7 : Int32) =>
            (some v7 : Option (Int32))) else ((some 0 : Option (Int32)))) else ((some 0 : Option (Int32)))) fun (v3 : Int32) =>
      x_promised_L5 I A R G pl n ks u1 u2 k (x3 + v3) (x4 + 1))
set_option maxRecDepth 100000 in
set_option maxHeartbeats 4000000 in
theorem x_promised_L5_w {p : Program} {l : Launch} {e : Env} {R0 : Room} {s : State} {m : MethodId} {args : Array Value} {below : List Frame} {meth : Method} {c : Code} {cells slots : Nat} {Q : State → Prop} {D : dd_} {s0 : State} {ad : Nat → Nat} {X : va_W} {base : Nat} (hx : p.tables.exec = Jvm.exec) (hb : c.code = cX0_promised) (hml : c.maxLocals = 5) (hown : s.vm.findClass RX0 = some m.cls) (hts : ∀ w ∈ lw_all, w.before args s = true) (hK : Kx D s) (hY : s0.WarmedH s.vm) (h0 : ∀ w ∈ lw_tbl, va_Nw w s0) (hRf : 5 ≤ R0.frames) (hRl : 117 ≤ R0.locals) (hcs : cells ≤ R0.cells ∧ slots ≤ R0.slots) {H : Heap} {locs : List Loc} (hB : base ≤ H.size) (I : Nat → Int32) (A : Nat → Nat → Int32) (R : Nat → Option Nat) (G : Nat → Nat → Option Nat) (pl n : Nat) (ks : Nat → Nat) (u1 : Int32) (u2 : Int32) (hR : RegX D X pl n ks) (hW : WX D xS ad I A R G X H) (y3 : Int32) (y4 : Int32) (KX : ∀ (ls : Array Slot), lv_has ls 5 [(3, .int y3)] → W p l e R0 s m args below meth c H locs cells slots Q (F0 m 67 ls [])) : ∀ (k : Nat) (x3 : Int32) (x4 : Int32) (ls : Array Slot), x_promised_L5 I A R G pl n ks u1 u2 k x3 x4 = some (y3, y4) → lv_has ls 5 [(0, .ref (ad 199)), (1, .int u1), (2, .int u2), (3, .int x3), (4, .int x4)] → W p l e R0 s m args below meth c H locs cells slots Q (F0 m 5 ls []) := by
  intro k
  induction k with
  | zero =>
    intro x3 x4 ls hf
    exact nomatch (show (none : Option (Int32 × Int32)) = some (y3, y4) from hf)
  | succ k ih =>
    intro x3 x4 ls hf hl
    have hf : (if (I 204) ≤ x4 then (some (x3, x4)) else (ob1 (ldO (A 205) 8 x4) fun (v2 : Int32) =>
          ob1 (if v2 = u1 then (ob1 (ldO (A 206) 8 x4) fun (v5 : Int32) =>
              if v5 = u2 then (ob1 (p_pounds (sh 200 I) (sh 200 A) (sh 200 R) pl n ks x4) fun (v7 : Int32) =>
                (some v7 : Option (Int32))) else ((some 0 : Option (Int32)))) else ((some 0 : Option (Int32)))) fun (v3 : Int32) =>
          x_promised_L5 I A R G pl n ks u1 u2 k (x3 + v3) (x4 + 1))) = some (y3, y4) := hf
    refine lv_iload hx hb dX0_promised_5 (lv_at hl 4 rfl) ?_
    refine lv_aload_n hx hb dX0_promised_7 rfl (lv_at hl 0 rfl) ?_
    refine x_get (v := .ref (ad 299)) hx hb hts hown hK hW xO199 in_X0 rfl 4 (by decide) q228 rfl rfl dX0_promised_8 ?_
    refine x_get (v := .int (I 204)) hx hb hts hown hK hW xO299 in_X1 rfl 4 (by decide) q168 rfl rfl dX0_promised_11 ?_
    refine lv_icmp_ge (tgt := 67) hx hb dX0_promised_14 (by decide) (fun c1 => ?_) (fun c1 => ?_)
    · rw [if_pos c1] at hf
      obtain ⟨rfl, rfl⟩ := so2 hf
      exact KX ls (lv_sub hl [3] rfl)
    · rw [if_neg c1] at hf
      refine lv_iload_n hx hb dX0_promised_17 rfl (lv_at hl 3 rfl) ?_
      refine lv_aload_n hx hb dX0_promised_18 rfl (lv_at hl 0 rfl) ?_
      refine x_get (v := .ref (ad 299)) hx hb hts hown hK hW xO199 in_X0 rfl 4 (by decide) q228 rfl rfl dX0_promised_19 ?_
      refine x_get (v := .ref (ad 205)) hx hb hts hown hK hW xO299 in_X1 rfl 5 (by decide) q170 rfl rfl dX0_promised_22 ?_
      refine lv_iload hx hb dX0_promised_25 (lv_at hl 4 rfl) ?_
      obtain ⟨v2, hv2, hf⟩ := ob1_e hf
      refine x_iald hx hb hK hW xA205 hv2 dX0_promised_27 ?_
      refine lv_iload_n hx hb dX0_promised_28 rfl (lv_at hl 1 rfl) ?_
      obtain ⟨v3, hm3, hf⟩ := ob1_e hf
      refine w_cutL (nL := 5) (L := [(0, .ref (ad 199)), (1, .int u1), (2, .int u2), (4, .int x4)]) (pcj := 59) (st := [.int v3, .int x3]) (fun ls hl => ?_) (fun K3 => ?_)
      · refine lv_iadd hx hb dX0_promised_59 ?_
        refine lv_istore_n (lv' := [(3, .int (x3 + v3)), (0, .ref (ad 199)), (1, .int u1), (2, .int u2), (4, .int x4)]) hx hb dX0_promised_60 rfl hl (by decide) rfl (fun ls hl => ?_)
        refine lv_iinc (v := x4 + 1) (lv' := [(4, .int (x4 + 1)), (3, .int (x3 + v3)), (0, .ref (ad 199)), (1, .int u1), (2, .int u2)]) hx hb dX0_promised_61 hl (k := 4) rfl (by rfl) (by decide) rfl (fun ls hl => ?_)
        refine lv_goto (tgt := 5) hx hb dX0_promised_64 (by decide) ?_
        exact ih (x3 + v3) (x4 + 1) ls hf (lv_sub hl [2, 3, 4, 1, 0] rfl)
      · refine lv_icmp_ne (tgt := 58) hx hb dX0_promised_29 (by decide) (fun c4 => ?_) (fun c4 => ?_)
        · rw [if_neg c4] at hm3
          refine lv_iconst (v := 0) hx hb dX0_promised_58 (by decide) ?_
          obtain rfl := so1 hm3
          exact K3 ls (lv_sub hl [0, 1, 2, 4] rfl)
        · rw [if_pos c4] at hm3
          refine lv_aload_n hx hb dX0_promised_32 rfl (lv_at hl 0 rfl) ?_
          refine x_get (v := .ref (ad 299)) hx hb hts hown hK hW xO199 in_X0 rfl 4 (by decide) q228 rfl rfl dX0_promised_33 ?_
          refine x_get (v := .ref (ad 206)) hx hb hts hown hK hW xO299 in_X1 rfl 6 (by decide) q172 rfl rfl dX0_promised_36 ?_
          refine lv_iload hx hb dX0_promised_39 (lv_at hl 4 rfl) ?_
          obtain ⟨v5, hv5, hm3⟩ := ob1_e hm3
          refine x_iald hx hb hK hW xA206 hv5 dX0_promised_41 ?_
          refine lv_iload_n hx hb dX0_promised_42 rfl (lv_at hl 2 rfl) ?_
          refine lv_icmp_ne (tgt := 58) hx hb dX0_promised_43 (by decide) (fun c6 => ?_) (fun c6 => ?_)
          · rw [if_neg c6] at hm3
            refine lv_iconst (v := 0) hx hb dX0_promised_58 (by decide) ?_
            obtain rfl := so1 hm3
            exact K3 ls (lv_sub hl [0, 1, 2, 4] rfl)
          · rw [if_pos c6] at hm3
            refine lv_aload_n hx hb dX0_promised_46 rfl (lv_at hl 0 rfl) ?_
            refine x_get (v := .ref (ad 299)) hx hb hts hown hK hW xO199 in_X0 rfl 4 (by decide) q228 rfl rfl dX0_promised_47 ?_
            refine lv_iload hx hb dX0_promised_50 (lv_at hl 4 rfl) ?_
            obtain ⟨v7, h7, hm3⟩ := ob1_e hm3
            refine x_vR (ov := some (.int v7)) (D := D) (s0 := s0) (Sc := pS) (adc := (sh 200 ad)) (Ic := (sh 200 I)) (Ac := (sh 200 A)) (Rc := (sh 200 R)) (Gc := nG) (Xc := (xr200 D ad I A R G X)) (base := base) (As := [.int x4]) (rest := [.int x3]) (b := ad 299) (C := RX1) ⟨hx, hb, hml, hown, hts⟩ (p_pounds_met l D s0 h0 (sh 200 ad) (xr200 D ad I A R G X) base (sh 200 I) (sh 200 A) (sh 200 R) pl n ks (xrg200 hR) x4 v7 h7) (g_cwV 1 hts (lw_V q901 q780 q781 q77 q782) rfl rfl p_pounds_ds ⟨Nat.le_trans (Nat.le_of_ble_eq_true rfl) hRf, Nat.le_trans (Nat.le_of_ble_eq_true rfl) hRl⟩) (x_recv hK hW xO299 rfl) hK hY hB (xw200 hW) hcs rfl hl.1 rfl (Nat.le_of_ble_eq_true rfl) dX0_promised_52 ?_
            refine lv_goto (tgt := 59) hx hb dX0_promised_55 (by decide) ?_
            obtain rfl := so1 hm3
            exact K3 ls (lv_sub hl [0, 1, 2, 4] rfl)
def x_promised (I : Nat → Int32) (A : Nat → Nat → Int32) (R : Nat → Option Nat) (G : Nat → Nat → Option Nat) (pl n : Nat) (ks : Nat → Nat) (a0 : Int32) (a1 : Int32) : Option (Int32) :=
  ob2 (x_promised_L5 I A R G pl n ks a0 a1 NF 0 0) fun (v1 : Int32) (v2 : Int32) =>
  some v1
set_option maxRecDepth 100000 in
set_option maxHeartbeats 4000000 in
theorem x_promised_met (l : Launch) (D : dd_) (s0 : State) (h0 : ∀ w ∈ lw_tbl, va_Nw w s0) (ad : Nat → Nat) (X : va_W) (base : Nat) (I : Nat → Int32) (A : Nat → Nat → Int32) (R : Nat → Option Nat) (G : Nat → Nat → Option Nat) (pl n : Nat) (ks : Nat → Nat) (hR : RegX D X pl n ks) (a0 : Int32) (a1 : Int32) (r : Int32) (hf : x_promised I A R G pl n ks a0 a1 = some r) : Met l yX0_promised (ws_ yX0_promised cX0_promised 5 (some .int)) ({ frames := 5, cells := 0, slots := 0, locals := 117 }) (PcX D s0 xS ad I A R G X base [.ref (ad 199), .int a0, .int a1]) (QcR (some (.int r))) 0 0 (fun _ => False) := by
  refine Met.ofW (cc := cX0_promised) (maxL := 5) (ret := (some .int)) (by decide) rfl ?_
  intro p e s m args below meth c s₁ B hml hv
  obtain ⟨rfl, hK, hY, hB, hW⟩ := hv
  have hx := B.exec
  have hb := B.bytes
  have hr := B.returns
  have hts := atoms_spec (ws := (ws_ yX0_promised cX0_promised 5 (some .int))) B.pre
  have hts : ∀ w ∈ lw_all, w.before _ s = true := fun w h => hts w (List.mem_cons_of_mem _ h)
  have hown : s.vm.findClass RX0 = some m.cls := findClass_of_methodNamed B.named
  have hlocks := B.notSynchronized
  have hRf : 5 ≤ (headSpec (ws_ yX0_promised cX0_promised 5 (some .int)) ({ frames := 5, cells := 0, slots := 0, locals := 117 })).room.frames := Nat.le_refl _
  have hRl : 117 ≤ (headSpec (ws_ yX0_promised cX0_promised 5 (some .int)) ({ frames := 5, cells := 0, slots := 0, locals := 117 })).room.locals := Nat.le_refl _
  have hcs : 0 ≤ (headSpec (ws_ yX0_promised cX0_promised 5 (some .int)) ({ frames := 5, cells := 0, slots := 0, locals := 117 })).room.cells ∧ 0 ≤ (headSpec (ws_ yX0_promised cX0_promised 5 (some .int)) ({ frames := 5, cells := 0, slots := 0, locals := 117 })).room.slots := ⟨Nat.zero_le _, Nat.zero_le _⟩
  have hl := lv_entry ([.ref (ad 199), .int a0, .int a1]) (n := 5) (Nat.le_of_ble_eq_true rfl)
  rw [lg_entry_eq]
  generalize (lg_sl ([.ref (ad 199), .int a0, .int a1]) ++ List.replicate (5 - (lg_sl ([.ref (ad 199), .int a0, .int a1])).length) Slot.unset).toArray = ls at hl ⊢
  have hl : lv_has ls 5 [(0, .ref (ad 199)), (1, .int a0), (2, .int a1)] := hl
  have hf : (ob2 (x_promised_L5 I A R G pl n ks a0 a1 NF 0 0) fun (v1 : Int32) (v2 : Int32) =>
    some v1) = some r := hf
  refine lv_iconst (v := 0) hx hb dX0_promised_0 (by decide) ?_
  refine lv_istore_n (lv' := [(3, .int 0), (0, .ref (ad 199)), (1, .int a0), (2, .int a1)]) hx hb dX0_promised_1 rfl hl (by decide) rfl (fun ls hl => ?_)
  refine lv_iconst (v := 0) hx hb dX0_promised_2 (by decide) ?_
  refine lv_istore (lv' := [(4, .int 0), (3, .int 0), (0, .ref (ad 199)), (1, .int a0), (2, .int a1)]) hx hb dX0_promised_3 hl (by decide) rfl (fun ls hl => ?_)
  obtain ⟨v1, v2, hq2, hf⟩ := ob2_e hf
  refine x_promised_L5_w hx hb hml hown hts hK hY h0 hRf hRl hcs hB I A R G pl n ks a0 a1 hR hW v1 v2 (fun ls hl => ?_) NF 0 0 ls hq2 (lv_sub hl [2, 3, 4, 1, 0] rfl)
  refine lv_iload_n hx hb dX0_promised_67 rfl (lv_at hl 0 rfl) ?_
  obtain rfl := so1 hf
  exact W.iret hx hb hr (fun t ht _ => ⟨rfl, ht⟩) (fun q hq => by cases hq) dX0_promised_68
theorem x_promised_ds : yX0_promised.cls = RX0 ∧ yX0_promised.cls ≠ "java/lang/invoke/MethodHandle" ∧ yX0_promised.cls ≠ "java/lang/invoke/VarHandle" ∧ (parseMethodDescriptor yX0_promised.desc).map (fun d => d.parameters.length) = some 2 := by decide +kernel
def x_isCandidate (I : Nat → Int32) (A : Nat → Nat → Int32) (R : Nat → Option Nat) (G : Nat → Nat → Option Nat) (pl n : Nat) (ks : Nat → Nat) (a0 : Int32) : Option (Int32) :=
  ob1 (grd (R 201) pl) fun (z1 : Unit) =>
  ob1 (pgO n a0) fun (j2 : Nat) =>
  ob1 (k_isVotedFor (ks j2) ) fun (v3 : Int32) =>
  zO v3
set_option maxRecDepth 100000 in
set_option maxHeartbeats 4000000 in
theorem x_isCandidate_met (l : Launch) (D : dd_) (s0 : State) (h0 : ∀ w ∈ lw_tbl, va_Nw w s0) (ad : Nat → Nat) (X : va_W) (base : Nat) (I : Nat → Int32) (A : Nat → Nat → Int32) (R : Nat → Option Nat) (G : Nat → Nat → Option Nat) (pl n : Nat) (ks : Nat → Nat) (hR : RegX D X pl n ks) (a0 : Int32) (r : Int32) (hf : x_isCandidate I A R G pl n ks a0 = some r) : Met l yX0_isCandidate (ws_ yX0_isCandidate cX0_isCandidate 2 (some .boolean)) ({ frames := 4, cells := 0, slots := 0, locals := 96 }) (PcX D s0 xS ad I A R G X base [.ref (ad 199), .int a0]) (QcR (some (.int r))) 0 0 (fun _ => False) := by
  refine Met.ofW (cc := cX0_isCandidate) (maxL := 2) (ret := (some .boolean)) (by decide) rfl ?_
  intro p e s m args below meth c s₁ B hml hv
  obtain ⟨rfl, hK, hY, hB, hW⟩ := hv
  have hx := B.exec
  have hb := B.bytes
  have hr := B.returns
  have hts := atoms_spec (ws := (ws_ yX0_isCandidate cX0_isCandidate 2 (some .boolean))) B.pre
  have hts : ∀ w ∈ lw_all, w.before _ s = true := fun w h => hts w (List.mem_cons_of_mem _ h)
  have hown : s.vm.findClass RX0 = some m.cls := findClass_of_methodNamed B.named
  have hlocks := B.notSynchronized
  have hRf : 4 ≤ (headSpec (ws_ yX0_isCandidate cX0_isCandidate 2 (some .boolean)) ({ frames := 4, cells := 0, slots := 0, locals := 96 })).room.frames := Nat.le_refl _
  have hRl : 96 ≤ (headSpec (ws_ yX0_isCandidate cX0_isCandidate 2 (some .boolean)) ({ frames := 4, cells := 0, slots := 0, locals := 96 })).room.locals := Nat.le_refl _
  have hcs : 0 ≤ (headSpec (ws_ yX0_isCandidate cX0_isCandidate 2 (some .boolean)) ({ frames := 4, cells := 0, slots := 0, locals := 96 })).room.cells ∧ 0 ≤ (headSpec (ws_ yX0_isCandidate cX0_isCandidate 2 (some .boolean)) ({ frames := 4, cells := 0, slots := 0, locals := 96 })).room.slots := ⟨Nat.zero_le _, Nat.zero_le _⟩
  have hl := lv_entry ([.ref (ad 199), .int a0]) (n := 2) (Nat.le_of_ble_eq_true rfl)
  rw [lg_entry_eq]
  generalize (lg_sl ([.ref (ad 199), .int a0]) ++ List.replicate (2 - (lg_sl ([.ref (ad 199), .int a0])).length) Slot.unset).toArray = ls at hl ⊢
  have hl : lv_has ls 2 [(0, .ref (ad 199)), (1, .int a0)] := hl
  have hf : (ob1 (grd (R 201) pl) fun (z1 : Unit) =>
    ob1 (pgO n a0) fun (j2 : Nat) =>
    ob1 (k_isVotedFor (ks j2) ) fun (v3 : Int32) =>
    zO v3) = some r := hf
  refine lv_aload_n hx hb dX0_isCandidate_0 rfl (lv_at hl 0 rfl) ?_
  refine x_get (v := .ref (ad 299)) hx hb hts hown hK hW xO199 in_X0 rfl 4 (by decide) q228 rfl rfl dX0_isCandidate_1 ?_
  obtain ⟨z1, hz1, hf⟩ := ob1_e hf
  refine x_get (v := .ref pl) hx hb hts hown hK hW xO299 in_X1 rfl 1 (by decide) q158 rfl (congrArg (fun z => some (va_rf z)) (grd_e hz1)) dX0_isCandidate_4 ?_
  refine lv_iload_n hx hb dX0_isCandidate_7 rfl (lv_at hl 1 rfl) ?_
  obtain ⟨j2, hj2, hf⟩ := ob1_e hf
  refine pe_get_X0 hx hb hml hown hts hK hY h0 (Nat.le_trans (Nat.le_of_ble_eq_true rfl) hRf) (Nat.le_trans (Nat.le_of_ble_eq_true rfl) hRl) hcs hB hW hR hj2 hl.1 (Nat.le_of_ble_eq_true rfl) dX0_isCandidate_8 (fun paj2 hmpaj2 h1paj2 h5paj2 => ?_)
  refine pe_cast_X0 hx hb hown hts hK hY h0 hW hmpaj2 h1paj2 h5paj2 dX0_isCandidate_13 ?_
  obtain ⟨v3, hv3, hf⟩ := ob1_e hf
  refine pe_isVotedFor_X0 hx hb hml hown hts hK hY h0 (Nat.le_trans (Nat.le_of_ble_eq_true rfl) hRf) (Nat.le_trans (Nat.le_of_ble_eq_true rfl) hRl) hcs hB hW hmpaj2 h1paj2 h5paj2 hv3 hl.1 (Nat.le_of_ble_eq_true rfl) dX0_isCandidate_16 ?_
  obtain ⟨hz, rfl⟩ := zO_e hf
  exact W.zret hx hb hr (nar_z hz) (fun t ht _ => ⟨rfl, ht⟩) (fun q hq => by cases hq) dX0_isCandidate_19
theorem x_isCandidate_ds : yX0_isCandidate.cls = RX0 ∧ yX0_isCandidate.cls ≠ "java/lang/invoke/MethodHandle" ∧ yX0_isCandidate.cls ≠ "java/lang/invoke/VarHandle" ∧ (parseMethodDescriptor yX0_isCandidate.desc).map (fun d => d.parameters.length) = some 1 := by decide +kernel
def x_voteOf_L9 (I : Nat → Int32) (A : Nat → Nat → Int32) (R : Nat → Option Nat) (G : Nat → Nat → Option Nat) (pl n : Nat) (ks : Nat → Nat) (u1 : Int32) : Nat → Int32 → Int32 → Int32 → Option (Int32 × Int32 × Int32)
  | 0, _, _, _ => none
  | k + 1, x2, x3, x4 =>
    ob1 (p_many (sh 200 I) (sh 200 A) (sh 200 R) pl n ks) fun (v1 : Int32) =>
    if v1 ≤ x4 then (some (x2, x3, x4)) else (ob1 (x_isCandidate I A R G pl n ks x4) fun (v3 : Int32) =>
      ob1 (if v3 = 0 then ((some 0 : Option (Int32))) else (ob1 (x_promised I A R G pl n ks x4 u1) fun (v6 : Int32) =>
          (some v6 : Option (Int32)))) fun (v4 : Int32) =>
      ob1 (if v4 ≤ x3 then ((some x2 : Option (Int32))) else ((some x4 : Option (Int32)))) fun (v7 : Int32) =>
      x_voteOf_L9 I A R G pl n ks u1 k v7 (mxI x3 v4) (x4 + 1))
set_option maxRecDepth 100000 in
set_option maxHeartbeats 4000000 in
theorem x_voteOf_L9_w {p : Program} {l : Launch} {e : Env} {R0 : Room} {s : State} {m : MethodId} {args : Array Value} {below : List Frame} {meth : Method} {c : Code} {cells slots : Nat} {Q : State → Prop} {D : dd_} {s0 : State} {ad : Nat → Nat} {X : va_W} {base : Nat} (hx : p.tables.exec = Jvm.exec) (hb : c.code = cX0_voteOf) (hml : c.maxLocals = 6) (hown : s.vm.findClass RX0 = some m.cls) (hts : ∀ w ∈ lw_all, w.before args s = true) (hK : Kx D s) (hY : s0.WarmedH s.vm) (h0 : ∀ w ∈ lw_tbl, va_Nw w s0) (hRf : 6 ≤ R0.frames) (hRl : 141 ≤ R0.locals) (hcs : cells ≤ R0.cells ∧ slots ≤ R0.slots) {H : Heap} {locs : List Loc} (hB : base ≤ H.size) (I : Nat → Int32) (A : Nat → Nat → Int32) (R : Nat → Option Nat) (G : Nat → Nat → Option Nat) (pl n : Nat) (ks : Nat → Nat) (u1 : Int32) (hR : RegX D X pl n ks) (hW : WX D xS ad I A R G X H) (y2 : Int32) (y3 : Int32) (y4 : Int32) (KX : ∀ (ls : Array Slot), lv_has ls 6 [(2, .int y2)] → W p l e R0 s m args below meth c H locs cells slots Q (F0 m 69 ls [])) : ∀ (k : Nat) (x2 : Int32) (x3 : Int32) (x4 : Int32) (ls : Array Slot), x_voteOf_L9 I A R G pl n ks u1 k x2 x3 x4 = some (y2, y3, y4) → lv_has ls 6 [(0, .ref (ad 199)), (1, .int u1), (2, .int x2), (3, .int x3), (4, .int x4)] → W p l e R0 s m args below meth c H locs cells slots Q (F0 m 9 ls []) := by
  intro k
  induction k with
  | zero =>
    intro x2 x3 x4 ls hf
    exact nomatch (show (none : Option (Int32 × Int32 × Int32)) = some (y2, y3, y4) from hf)
  | succ k ih =>
    intro x2 x3 x4 ls hf hl
    have hf : (ob1 (p_many (sh 200 I) (sh 200 A) (sh 200 R) pl n ks) fun (v1 : Int32) =>
        if v1 ≤ x4 then (some (x2, x3, x4)) else (ob1 (x_isCandidate I A R G pl n ks x4) fun (v3 : Int32) =>
          ob1 (if v3 = 0 then ((some 0 : Option (Int32))) else (ob1 (x_promised I A R G pl n ks x4 u1) fun (v6 : Int32) =>
              (some v6 : Option (Int32)))) fun (v4 : Int32) =>
          ob1 (if v4 ≤ x3 then ((some x2 : Option (Int32))) else ((some x4 : Option (Int32)))) fun (v7 : Int32) =>
          x_voteOf_L9 I A R G pl n ks u1 k v7 (mxI x3 v4) (x4 + 1))) = some (y2, y3, y4) := hf
    refine lv_iload hx hb dX0_voteOf_9 (lv_at hl 4 rfl) ?_
    refine lv_aload_n hx hb dX0_voteOf_11 rfl (lv_at hl 0 rfl) ?_
    refine x_get (v := .ref (ad 299)) hx hb hts hown hK hW xO199 in_X0 rfl 4 (by decide) q228 rfl rfl dX0_voteOf_12 ?_
    obtain ⟨v1, h1, hf⟩ := ob1_e hf
    refine x_vR (ov := some (.int v1)) (D := D) (s0 := s0) (Sc := pS) (adc := (sh 200 ad)) (Ic := (sh 200 I)) (Ac := (sh 200 A)) (Rc := (sh 200 R)) (Gc := nG) (Xc := (xr200 D ad I A R G X)) (base := base) (As := []) (rest := [.int x4]) (b := ad 299) (C := RX1) ⟨hx, hb, hml, hown, hts⟩ (p_many_met l D s0 h0 (sh 200 ad) (xr200 D ad I A R G X) base (sh 200 I) (sh 200 A) (sh 200 R) pl n ks (xrg200 hR)  v1 h1) (g_cwV 0 hts (lw_V q747 q602 q603 q77 q604) rfl rfl p_many_ds ⟨Nat.le_trans (Nat.le_of_ble_eq_true rfl) hRf, Nat.le_trans (Nat.le_of_ble_eq_true rfl) hRl⟩) (x_recv hK hW xO299 rfl) hK hY hB (xw200 hW) hcs rfl hl.1 rfl (Nat.le_of_ble_eq_true rfl) dX0_voteOf_15 ?_
    refine lv_icmp_ge (tgt := 69) hx hb dX0_voteOf_18 (by decide) (fun c2 => ?_) (fun c2 => ?_)
    · rw [if_pos c2] at hf
      obtain ⟨rfl, rfl, rfl⟩ := so3 hf
      exact KX ls (lv_sub hl [2] rfl)
    · rw [if_neg c2] at hf
      refine lv_aload_n hx hb dX0_voteOf_21 rfl (lv_at hl 0 rfl) ?_
      refine lv_iload hx hb dX0_voteOf_22 (lv_at hl 4 rfl) ?_
      obtain ⟨v3, h3, hf⟩ := ob1_e hf
      refine x_vR (ov := some (.int v3)) (D := D) (s0 := s0) (Sc := xS) (adc := ad) (Ic := I) (Ac := A) (Rc := R) (Gc := G) (Xc := X) (base := base) (As := [.int x4]) (rest := []) (b := ad 199) (C := RX0) ⟨hx, hb, hml, hown, hts⟩ (x_isCandidate_met l D s0 h0 ad X base I A R G pl n ks hR x4 v3 h3) (g_cwV 1 hts (lw_V q972 q974 qs27 q76 q975) rfl rfl x_isCandidate_ds ⟨Nat.le_trans (Nat.le_of_ble_eq_true rfl) hRf, Nat.le_trans (Nat.le_of_ble_eq_true rfl) hRl⟩) (x_recv hK hW xO199 rfl) hK hY hB hW hcs rfl hl.1 rfl (Nat.le_of_ble_eq_true rfl) dX0_voteOf_24 ?_
      obtain ⟨v4, hm4, hf⟩ := ob1_e hf
      refine w_cutL (nL := 6) (L := [(0, .ref (ad 199)), (1, .int u1), (2, .int x2), (3, .int x3), (4, .int x4)]) (pcj := 41) (st := [.int v4]) (fun ls hl => ?_) (fun K4 => ?_)
      · refine lv_istore (lv' := [(5, .int v4), (0, .ref (ad 199)), (1, .int u1), (2, .int x2), (3, .int x3), (4, .int x4)]) hx hb dX0_voteOf_41 hl (by decide) rfl (fun ls hl => ?_)
        refine lv_iload hx hb dX0_voteOf_43 (lv_at hl 0 rfl) ?_
        refine lv_iload_n hx hb dX0_voteOf_45 rfl (lv_at hl 4 rfl) ?_
        obtain ⟨v7, hm7, hf⟩ := ob1_e hf
        refine w_cutL (nL := 6) (L := [(0, .ref (ad 199)), (1, .int u1), (3, .int x3), (4, .int x4), (5, .int v4)]) (pcj := 55) (st := [.int v7]) (fun ls hl => ?_) (fun K7 => ?_)
        · refine lv_istore_n (lv' := [(2, .int v7), (0, .ref (ad 199)), (1, .int u1), (3, .int x3), (4, .int x4), (5, .int v4)]) hx hb dX0_voteOf_55 rfl hl (by decide) rfl (fun ls hl => ?_)
          refine lv_iload_n hx hb dX0_voteOf_56 rfl (lv_at hl 3 rfl) ?_
          refine lv_iload hx hb dX0_voteOf_57 (lv_at hl 5 rfl) ?_
          refine x_max hx hb hml hl.1 hts hown q918 (Nat.le_trans (Nat.le_of_ble_eq_true rfl) hRf) (Nat.le_trans (Nat.le_of_ble_eq_true rfl) hRl) hcs dX0_voteOf_59 ?_
          refine lv_istore_n (lv' := [(3, .int (mxI x3 v4)), (2, .int v7), (0, .ref (ad 199)), (1, .int u1), (4, .int x4), (5, .int v4)]) hx hb dX0_voteOf_62 rfl hl (by decide) rfl (fun ls hl => ?_)
          refine lv_iinc (v := x4 + 1) (lv' := [(4, .int (x4 + 1)), (3, .int (mxI x3 v4)), (2, .int v7), (0, .ref (ad 199)), (1, .int u1), (5, .int v4)]) hx hb dX0_voteOf_63 hl (k := 4) rfl (by rfl) (by decide) rfl (fun ls hl => ?_)
          refine lv_goto (tgt := 9) hx hb dX0_voteOf_66 (by decide) ?_
          exact ih v7 (mxI x3 v4) (x4 + 1) ls hf (lv_sub hl [3, 4, 2, 1, 0] rfl)
        · refine lv_icmp_le (tgt := 54) hx hb dX0_voteOf_46 (by decide) (fun c8 => ?_) (fun c8 => ?_)
          · rw [if_pos c8] at hm7
            refine lv_iload_n hx hb dX0_voteOf_54 rfl (lv_at hl 3 rfl) ?_
            obtain rfl := so1 hm7
            exact K7 ls (lv_sub hl [1, 2, 4, 5, 0] rfl)
          · rw [if_neg c8] at hm7
            refine lv_iload hx hb dX0_voteOf_49 (lv_at hl 5 rfl) ?_
            refine lv_goto (tgt := 55) hx hb dX0_voteOf_51 (by decide) ?_
            obtain rfl := so1 hm7
            exact K7 ls (lv_sub hl [1, 2, 4, 5, 0] rfl)
      · refine lv_if_eq (tgt := 40) hx hb dX0_voteOf_27 (by decide) (fun c5 => ?_) (fun c5 => ?_)
        · rw [if_pos c5] at hm4
          refine lv_iconst (v := 0) hx hb dX0_voteOf_40 (by decide) ?_
          obtain rfl := so1 hm4
          exact K4 ls (lv_sub hl [0, 1, 2, 3, 4] rfl)
        · rw [if_neg c5] at hm4
          refine lv_aload_n hx hb dX0_voteOf_30 rfl (lv_at hl 0 rfl) ?_
          refine lv_iload hx hb dX0_voteOf_31 (lv_at hl 4 rfl) ?_
          refine lv_iload_n hx hb dX0_voteOf_33 rfl (lv_at hl 1 rfl) ?_
          obtain ⟨v6, h6, hm4⟩ := ob1_e hm4
          refine x_vR (ov := some (.int v6)) (D := D) (s0 := s0) (Sc := xS) (adc := ad) (Ic := I) (Ac := A) (Rc := R) (Gc := G) (Xc := X) (base := base) (As := [.int x4, .int u1]) (rest := []) (b := ad 199) (C := RX0) ⟨hx, hb, hml, hown, hts⟩ (x_promised_met l D s0 h0 ad X base I A R G pl n ks hR x4 u1 v6 h6) (g_cwV 2 hts (lw_V q998 q1000 qs30 q76 q1001) rfl rfl x_promised_ds ⟨Nat.le_trans (Nat.le_of_ble_eq_true rfl) hRf, Nat.le_trans (Nat.le_of_ble_eq_true rfl) hRl⟩) (x_recv hK hW xO199 rfl) hK hY hB hW hcs rfl hl.1 rfl (Nat.le_of_ble_eq_true rfl) dX0_voteOf_34 ?_
          refine lv_goto (tgt := 41) hx hb dX0_voteOf_37 (by decide) ?_
          obtain rfl := so1 hm4
          exact K4 ls (lv_sub hl [0, 1, 2, 3, 4] rfl)
def x_voteOf (I : Nat → Int32) (A : Nat → Nat → Int32) (R : Nat → Option Nat) (G : Nat → Nat → Option Nat) (pl n : Nat) (ks : Nat → Nat) (a0 : Int32) : Option (Int32) :=
  ob3 (x_voteOf_L9 I A R G pl n ks a0 NF (-1000000) 0 0) fun (v1 : Int32) (v2 : Int32) (v3 : Int32) =>
  some v1
set_option maxRecDepth 100000 in
set_option maxHeartbeats 4000000 in
theorem x_voteOf_met (l : Launch) (D : dd_) (s0 : State) (h0 : ∀ w ∈ lw_tbl, va_Nw w s0) (ad : Nat → Nat) (X : va_W) (base : Nat) (I : Nat → Int32) (A : Nat → Nat → Int32) (R : Nat → Option Nat) (G : Nat → Nat → Option Nat) (pl n : Nat) (ks : Nat → Nat) (hR : RegX D X pl n ks) (a0 : Int32) (r : Int32) (hf : x_voteOf I A R G pl n ks a0 = some r) : Met l yX0_voteOf (ws_ yX0_voteOf cX0_voteOf 6 (some .int)) ({ frames := 6, cells := 0, slots := 0, locals := 141 }) (PcX D s0 xS ad I A R G X base [.ref (ad 199), .int a0]) (QcR (some (.int r))) 0 0 (fun _ => False) := by
  refine Met.ofW (cc := cX0_voteOf) (maxL := 6) (ret := (some .int)) (by decide) rfl ?_
  intro p e s m args below meth c s₁ B hml hv
  obtain ⟨rfl, hK, hY, hB, hW⟩ := hv
  have hx := B.exec
  have hb := B.bytes
  have hr := B.returns
  have hts := atoms_spec (ws := (ws_ yX0_voteOf cX0_voteOf 6 (some .int))) B.pre
  have hts : ∀ w ∈ lw_all, w.before _ s = true := fun w h => hts w (List.mem_cons_of_mem _ h)
  have hown : s.vm.findClass RX0 = some m.cls := findClass_of_methodNamed B.named
  have hlocks := B.notSynchronized
  have hRf : 6 ≤ (headSpec (ws_ yX0_voteOf cX0_voteOf 6 (some .int)) ({ frames := 6, cells := 0, slots := 0, locals := 141 })).room.frames := Nat.le_refl _
  have hRl : 141 ≤ (headSpec (ws_ yX0_voteOf cX0_voteOf 6 (some .int)) ({ frames := 6, cells := 0, slots := 0, locals := 141 })).room.locals := Nat.le_refl _
  have hcs : 0 ≤ (headSpec (ws_ yX0_voteOf cX0_voteOf 6 (some .int)) ({ frames := 6, cells := 0, slots := 0, locals := 141 })).room.cells ∧ 0 ≤ (headSpec (ws_ yX0_voteOf cX0_voteOf 6 (some .int)) ({ frames := 6, cells := 0, slots := 0, locals := 141 })).room.slots := ⟨Nat.zero_le _, Nat.zero_le _⟩
  have hl := lv_entry ([.ref (ad 199), .int a0]) (n := 6) (Nat.le_of_ble_eq_true rfl)
  rw [lg_entry_eq]
  generalize (lg_sl ([.ref (ad 199), .int a0]) ++ List.replicate (6 - (lg_sl ([.ref (ad 199), .int a0])).length) Slot.unset).toArray = ls at hl ⊢
  have hl : lv_has ls 6 [(0, .ref (ad 199)), (1, .int a0)] := hl
  have hf : (ob3 (x_voteOf_L9 I A R G pl n ks a0 NF (-1000000) 0 0) fun (v1 : Int32) (v2 : Int32) (v3 : Int32) =>
    some v1) = some r := hf
  refine lv_ldcw (v := (-1000000)) hx hb hown (hts _ q941) dX0_voteOf_0 ?_
  refine lv_istore_n (lv' := [(2, .int (-1000000)), (0, .ref (ad 199)), (1, .int a0)]) hx hb dX0_voteOf_3 rfl hl (by decide) rfl (fun ls hl => ?_)
  refine lv_iconst (v := 0) hx hb dX0_voteOf_4 (by decide) ?_
  refine lv_istore_n (lv' := [(3, .int 0), (2, .int (-1000000)), (0, .ref (ad 199)), (1, .int a0)]) hx hb dX0_voteOf_5 rfl hl (by decide) rfl (fun ls hl => ?_)
  refine lv_iconst (v := 0) hx hb dX0_voteOf_6 (by decide) ?_
  refine lv_istore (lv' := [(4, .int 0), (3, .int 0), (2, .int (-1000000)), (0, .ref (ad 199)), (1, .int a0)]) hx hb dX0_voteOf_7 hl (by decide) rfl (fun ls hl => ?_)
  obtain ⟨v1, v2, v3, hq3, hf⟩ := ob3_e hf
  refine x_voteOf_L9_w hx hb hml hown hts hK hY h0 hRf hRl hcs hB I A R G pl n ks a0 hR hW v1 v2 v3 (fun ls hl => ?_) NF (-1000000) 0 0 ls hq3 (lv_sub hl [3, 4, 2, 1, 0] rfl)
  refine lv_iload_n hx hb dX0_voteOf_69 rfl (lv_at hl 0 rfl) ?_
  obtain rfl := so1 hf
  exact W.iret hx hb hr (fun t ht _ => ⟨rfl, ht⟩) (fun q hq => by cases hq) dX0_voteOf_70
theorem x_voteOf_ds : yX0_voteOf.cls = RX0 ∧ yX0_voteOf.cls ≠ "java/lang/invoke/MethodHandle" ∧ yX0_voteOf.cls ≠ "java/lang/invoke/VarHandle" ∧ (parseMethodDescriptor yX0_voteOf.desc).map (fun d => d.parameters.length) = some 1 := by decide +kernel
def x_votesFor_L4 (I : Nat → Int32) (A : Nat → Nat → Int32) (R : Nat → Option Nat) (G : Nat → Nat → Option Nat) (pl n : Nat) (ks : Nat → Nat) (u1 : Int32) : Nat → Int32 → Int32 → Option (Int32 × Int32)
  | 0, _, _ => none
  | k + 1, x2, x3 =>
    ob1 (p_many (sh 200 I) (sh 200 A) (sh 200 R) pl n ks) fun (v1 : Int32) =>
    if v1 ≤ x3 then (some (x2, x3)) else (ob1 (x_isCandidate I A R G pl n ks x3) fun (v3 : Int32) =>
      ob1 (if v3 = 0 then (ob1 (x_voteOf I A R G pl n ks x3) fun (v6 : Int32) =>
          if v6 = u1 then ((some 1 : Option (Int32))) else ((some 0 : Option (Int32)))) else ((some 0 : Option (Int32)))) fun (v4 : Int32) =>
      x_votesFor_L4 I A R G pl n ks u1 k (x2 + v4) (x3 + 1))
set_option maxRecDepth 100000 in
set_option maxHeartbeats 4000000 in
theorem x_votesFor_L4_w {p : Program} {l : Launch} {e : Env} {R0 : Room} {s : State} {m : MethodId} {args : Array Value} {below : List Frame} {meth : Method} {c : Code} {cells slots : Nat} {Q : State → Prop} {D : dd_} {s0 : State} {ad : Nat → Nat} {X : va_W} {base : Nat} (hx : p.tables.exec = Jvm.exec) (hb : c.code = cX0_votesFor) (hml : c.maxLocals = 4) (hown : s.vm.findClass RX0 = some m.cls) (hts : ∀ w ∈ lw_all, w.before args s = true) (hK : Kx D s) (hY : s0.WarmedH s.vm) (h0 : ∀ w ∈ lw_tbl, va_Nw w s0) (hRf : 7 ≤ R0.frames) (hRl : 166 ≤ R0.locals) (hcs : cells ≤ R0.cells ∧ slots ≤ R0.slots) {H : Heap} {locs : List Loc} (hB : base ≤ H.size) (I : Nat → Int32) (A : Nat → Nat → Int32) (R : Nat → Option Nat) (G : Nat → Nat → Option Nat) (pl n : Nat) (ks : Nat → Nat) (u1 : Int32) (hR : RegX D X pl n ks) (hW : WX D xS ad I A R G X H) (y2 : Int32) (y3 : Int32) (KX : ∀ (ls : Array Slot), lv_has ls 4 [(2, .int y2)] → W p l e R0 s m args below meth c H locs cells slots Q (F0 m 46 ls [])) : ∀ (k : Nat) (x2 : Int32) (x3 : Int32) (ls : Array Slot), x_votesFor_L4 I A R G pl n ks u1 k x2 x3 = some (y2, y3) → lv_has ls 4 [(0, .ref (ad 199)), (1, .int u1), (2, .int x2), (3, .int x3)] → W p l e R0 s m args below meth c H locs cells slots Q (F0 m 4 ls []) := by
  intro k
  induction k with
  | zero =>
    intro x2 x3 ls hf
    exact nomatch (show (none : Option (Int32 × Int32)) = some (y2, y3) from hf)
  | succ k ih =>
    intro x2 x3 ls hf hl
    have hf : (ob1 (p_many (sh 200 I) (sh 200 A) (sh 200 R) pl n ks) fun (v1 : Int32) =>
        if v1 ≤ x3 then (some (x2, x3)) else (ob1 (x_isCandidate I A R G pl n ks x3) fun (v3 : Int32) =>
          ob1 (if v3 = 0 then (ob1 (x_voteOf I A R G pl n ks x3) fun (v6 : Int32) =>
              if v6 = u1 then ((some 1 : Option (Int32))) else ((some 0 : Option (Int32)))) else ((some 0 : Option (Int32)))) fun (v4 : Int32) =>
          x_votesFor_L4 I A R G pl n ks u1 k (x2 + v4) (x3 + 1))) = some (y2, y3) := hf
    refine lv_iload_n hx hb dX0_votesFor_4 rfl (lv_at hl 3 rfl) ?_
    refine lv_aload_n hx hb dX0_votesFor_5 rfl (lv_at hl 0 rfl) ?_
    refine x_get (v := .ref (ad 299)) hx hb hts hown hK hW xO199 in_X0 rfl 4 (by decide) q228 rfl rfl dX0_votesFor_6 ?_
    obtain ⟨v1, h1, hf⟩ := ob1_e hf
    refine x_vR (ov := some (.int v1)) (D := D) (s0 := s0) (Sc := pS) (adc := (sh 200 ad)) (Ic := (sh 200 I)) (Ac := (sh 200 A)) (Rc := (sh 200 R)) (Gc := nG) (Xc := (xr200 D ad I A R G X)) (base := base) (As := []) (rest := [.int x3]) (b := ad 299) (C := RX1) ⟨hx, hb, hml, hown, hts⟩ (p_many_met l D s0 h0 (sh 200 ad) (xr200 D ad I A R G X) base (sh 200 I) (sh 200 A) (sh 200 R) pl n ks (xrg200 hR)  v1 h1) (g_cwV 0 hts (lw_V q747 q602 q603 q77 q604) rfl rfl p_many_ds ⟨Nat.le_trans (Nat.le_of_ble_eq_true rfl) hRf, Nat.le_trans (Nat.le_of_ble_eq_true rfl) hRl⟩) (x_recv hK hW xO299 rfl) hK hY hB (xw200 hW) hcs rfl hl.1 rfl (Nat.le_of_ble_eq_true rfl) dX0_votesFor_9 ?_
    refine lv_icmp_ge (tgt := 46) hx hb dX0_votesFor_12 (by decide) (fun c2 => ?_) (fun c2 => ?_)
    · rw [if_pos c2] at hf
      obtain ⟨rfl, rfl⟩ := so2 hf
      exact KX ls (lv_sub hl [2] rfl)
    · rw [if_neg c2] at hf
      refine lv_iload_n hx hb dX0_votesFor_15 rfl (lv_at hl 2 rfl) ?_
      refine lv_aload_n hx hb dX0_votesFor_16 rfl (lv_at hl 0 rfl) ?_
      refine lv_iload_n hx hb dX0_votesFor_17 rfl (lv_at hl 3 rfl) ?_
      obtain ⟨v3, h3, hf⟩ := ob1_e hf
      refine x_vR (ov := some (.int v3)) (D := D) (s0 := s0) (Sc := xS) (adc := ad) (Ic := I) (Ac := A) (Rc := R) (Gc := G) (Xc := X) (base := base) (As := [.int x3]) (rest := [.int x2]) (b := ad 199) (C := RX0) ⟨hx, hb, hml, hown, hts⟩ (x_isCandidate_met l D s0 h0 ad X base I A R G pl n ks hR x3 v3 h3) (g_cwV 1 hts (lw_V q972 q974 qs27 q76 q975) rfl rfl x_isCandidate_ds ⟨Nat.le_trans (Nat.le_of_ble_eq_true rfl) hRf, Nat.le_trans (Nat.le_of_ble_eq_true rfl) hRl⟩) (x_recv hK hW xO199 rfl) hK hY hB hW hcs rfl hl.1 rfl (Nat.le_of_ble_eq_true rfl) dX0_votesFor_18 ?_
      obtain ⟨v4, hm4, hf⟩ := ob1_e hf
      refine w_cutL (nL := 4) (L := [(0, .ref (ad 199)), (1, .int u1), (3, .int x3)]) (pcj := 38) (st := [.int v4, .int x2]) (fun ls hl => ?_) (fun K4 => ?_)
      · refine lv_iadd hx hb dX0_votesFor_38 ?_
        refine lv_istore_n (lv' := [(2, .int (x2 + v4)), (0, .ref (ad 199)), (1, .int u1), (3, .int x3)]) hx hb dX0_votesFor_39 rfl hl (by decide) rfl (fun ls hl => ?_)
        refine lv_iinc (v := x3 + 1) (lv' := [(3, .int (x3 + 1)), (2, .int (x2 + v4)), (0, .ref (ad 199)), (1, .int u1)]) hx hb dX0_votesFor_40 hl (k := 3) rfl (by rfl) (by decide) rfl (fun ls hl => ?_)
        refine lv_goto (tgt := 4) hx hb dX0_votesFor_43 (by decide) ?_
        exact ih (x2 + v4) (x3 + 1) ls hf (lv_sub hl [2, 3, 1, 0] rfl)
      · refine lv_if_ne (tgt := 37) hx hb dX0_votesFor_21 (by decide) (fun c5 => ?_) (fun c5 => ?_)
        · rw [if_neg c5] at hm4
          refine lv_iconst (v := 0) hx hb dX0_votesFor_37 (by decide) ?_
          obtain rfl := so1 hm4
          exact K4 ls (lv_sub hl [0, 1, 3] rfl)
        · rw [if_pos c5] at hm4
          refine lv_aload_n hx hb dX0_votesFor_24 rfl (lv_at hl 0 rfl) ?_
          refine lv_iload_n hx hb dX0_votesFor_25 rfl (lv_at hl 3 rfl) ?_
          obtain ⟨v6, h6, hm4⟩ := ob1_e hm4
          refine x_vR (ov := some (.int v6)) (D := D) (s0 := s0) (Sc := xS) (adc := ad) (Ic := I) (Ac := A) (Rc := R) (Gc := G) (Xc := X) (base := base) (As := [.int x3]) (rest := [.int x2]) (b := ad 199) (C := RX0) ⟨hx, hb, hml, hown, hts⟩ (x_voteOf_met l D s0 h0 ad X base I A R G pl n ks hR x3 v6 h6) (g_cwV 1 hts (lw_V q994 q996 qs29 q76 q997) rfl rfl x_voteOf_ds ⟨Nat.le_trans (Nat.le_of_ble_eq_true rfl) hRf, Nat.le_trans (Nat.le_of_ble_eq_true rfl) hRl⟩) (x_recv hK hW xO199 rfl) hK hY hB hW hcs rfl hl.1 rfl (Nat.le_of_ble_eq_true rfl) dX0_votesFor_26 ?_
          refine lv_iload_n hx hb dX0_votesFor_29 rfl (lv_at hl 1 rfl) ?_
          refine lv_icmp_ne (tgt := 37) hx hb dX0_votesFor_30 (by decide) (fun c7 => ?_) (fun c7 => ?_)
          · rw [if_neg c7] at hm4
            refine lv_iconst (v := 0) hx hb dX0_votesFor_37 (by decide) ?_
            obtain rfl := so1 hm4
            exact K4 ls (lv_sub hl [0, 1, 3] rfl)
          · rw [if_pos c7] at hm4
            refine lv_iconst (v := 1) hx hb dX0_votesFor_33 (by decide) ?_
            refine lv_goto (tgt := 38) hx hb dX0_votesFor_34 (by decide) ?_
            obtain rfl := so1 hm4
            exact K4 ls (lv_sub hl [0, 1, 3] rfl)
def x_votesFor (I : Nat → Int32) (A : Nat → Nat → Int32) (R : Nat → Option Nat) (G : Nat → Nat → Option Nat) (pl n : Nat) (ks : Nat → Nat) (a0 : Int32) : Option (Int32) :=
  ob2 (x_votesFor_L4 I A R G pl n ks a0 NF 0 0) fun (v1 : Int32) (v2 : Int32) =>
  some v1
set_option maxRecDepth 100000 in
set_option maxHeartbeats 4000000 in
theorem x_votesFor_met (l : Launch) (D : dd_) (s0 : State) (h0 : ∀ w ∈ lw_tbl, va_Nw w s0) (ad : Nat → Nat) (X : va_W) (base : Nat) (I : Nat → Int32) (A : Nat → Nat → Int32) (R : Nat → Option Nat) (G : Nat → Nat → Option Nat) (pl n : Nat) (ks : Nat → Nat) (hR : RegX D X pl n ks) (a0 : Int32) (r : Int32) (hf : x_votesFor I A R G pl n ks a0 = some r) : Met l yX0_votesFor (ws_ yX0_votesFor cX0_votesFor 4 (some .int)) ({ frames := 7, cells := 0, slots := 0, locals := 166 }) (PcX D s0 xS ad I A R G X base [.ref (ad 199), .int a0]) (QcR (some (.int r))) 0 0 (fun _ => False) := by
  refine Met.ofW (cc := cX0_votesFor) (maxL := 4) (ret := (some .int)) (by decide) rfl ?_
  intro p e s m args below meth c s₁ B hml hv
  obtain ⟨rfl, hK, hY, hB, hW⟩ := hv
  have hx := B.exec
  have hb := B.bytes
  have hr := B.returns
  have hts := atoms_spec (ws := (ws_ yX0_votesFor cX0_votesFor 4 (some .int))) B.pre
  have hts : ∀ w ∈ lw_all, w.before _ s = true := fun w h => hts w (List.mem_cons_of_mem _ h)
  have hown : s.vm.findClass RX0 = some m.cls := findClass_of_methodNamed B.named
  have hlocks := B.notSynchronized
  have hRf : 7 ≤ (headSpec (ws_ yX0_votesFor cX0_votesFor 4 (some .int)) ({ frames := 7, cells := 0, slots := 0, locals := 166 })).room.frames := Nat.le_refl _
  have hRl : 166 ≤ (headSpec (ws_ yX0_votesFor cX0_votesFor 4 (some .int)) ({ frames := 7, cells := 0, slots := 0, locals := 166 })).room.locals := Nat.le_refl _
  have hcs : 0 ≤ (headSpec (ws_ yX0_votesFor cX0_votesFor 4 (some .int)) ({ frames := 7, cells := 0, slots := 0, locals := 166 })).room.cells ∧ 0 ≤ (headSpec (ws_ yX0_votesFor cX0_votesFor 4 (some .int)) ({ frames := 7, cells := 0, slots := 0, locals := 166 })).room.slots := ⟨Nat.zero_le _, Nat.zero_le _⟩
  have hl := lv_entry ([.ref (ad 199), .int a0]) (n := 4) (Nat.le_of_ble_eq_true rfl)
  rw [lg_entry_eq]
  generalize (lg_sl ([.ref (ad 199), .int a0]) ++ List.replicate (4 - (lg_sl ([.ref (ad 199), .int a0])).length) Slot.unset).toArray = ls at hl ⊢
  have hl : lv_has ls 4 [(0, .ref (ad 199)), (1, .int a0)] := hl
  have hf : (ob2 (x_votesFor_L4 I A R G pl n ks a0 NF 0 0) fun (v1 : Int32) (v2 : Int32) =>
    some v1) = some r := hf
  refine lv_iconst (v := 0) hx hb dX0_votesFor_0 (by decide) ?_
  refine lv_istore_n (lv' := [(2, .int 0), (0, .ref (ad 199)), (1, .int a0)]) hx hb dX0_votesFor_1 rfl hl (by decide) rfl (fun ls hl => ?_)
  refine lv_iconst (v := 0) hx hb dX0_votesFor_2 (by decide) ?_
  refine lv_istore_n (lv' := [(3, .int 0), (2, .int 0), (0, .ref (ad 199)), (1, .int a0)]) hx hb dX0_votesFor_3 rfl hl (by decide) rfl (fun ls hl => ?_)
  obtain ⟨v1, v2, hq2, hf⟩ := ob2_e hf
  refine x_votesFor_L4_w hx hb hml hown hts hK hY h0 hRf hRl hcs hB I A R G pl n ks a0 hR hW v1 v2 (fun ls hl => ?_) NF 0 0 ls hq2 (lv_sub hl [2, 3, 1, 0] rfl)
  refine lv_iload_n hx hb dX0_votesFor_46 rfl (lv_at hl 0 rfl) ?_
  obtain rfl := so1 hf
  exact W.iret hx hb hr (fun t ht _ => ⟨rfl, ht⟩) (fun q hq => by cases hq) dX0_votesFor_47
theorem x_votesFor_ds : yX0_votesFor.cls = RX0 ∧ yX0_votesFor.cls ≠ "java/lang/invoke/MethodHandle" ∧ yX0_votesFor.cls ≠ "java/lang/invoke/VarHandle" ∧ (parseMethodDescriptor yX0_votesFor.desc).map (fun d => d.parameters.length) = some 1 := by decide +kernel
def x_votes (I : Nat → Int32) (A : Nat → Nat → Int32) (R : Nat → Option Nat) (G : Nat → Nat → Option Nat) (pl n : Nat) (ks : Nat → Nat) (a0 : Int32) : Option (Int32) :=
  ob1 (x_isPerson I A R G pl n ks a0) fun (v1 : Int32) =>
  ob1 (if v1 = 0 then ((some (-1000001) : Option (Int32))) else (ob1 (x_isCandidate I A R G pl n ks a0) fun (v4 : Int32) =>
      if v4 = 0 then ((some (-1000001) : Option (Int32))) else (ob1 (x_votesFor I A R G pl n ks a0) fun (v6 : Int32) =>
        (some v6 : Option (Int32))))) fun (v2 : Int32) =>
  some v2
set_option maxRecDepth 100000 in
set_option maxHeartbeats 4000000 in
theorem x_votes_met (l : Launch) (D : dd_) (s0 : State) (h0 : ∀ w ∈ lw_tbl, va_Nw w s0) (ad : Nat → Nat) (X : va_W) (base : Nat) (I : Nat → Int32) (A : Nat → Nat → Int32) (R : Nat → Option Nat) (G : Nat → Nat → Option Nat) (pl n : Nat) (ks : Nat → Nat) (hR : RegX D X pl n ks) (a0 : Int32) (r : Int32) (hf : x_votes I A R G pl n ks a0 = some r) : Met l yX0_votes (ws_ yX0_votes cX0_votes 2 (some .int)) ({ frames := 8, cells := 0, slots := 0, locals := 189 }) (PcX D s0 xS ad I A R G X base [.ref (ad 199), .int a0]) (QcR (some (.int r))) 0 0 (fun _ => False) := by
  refine Met.ofW (cc := cX0_votes) (maxL := 2) (ret := (some .int)) (by decide) rfl ?_
  intro p e s m args below meth c s₁ B hml hv
  obtain ⟨rfl, hK, hY, hB, hW⟩ := hv
  have hx := B.exec
  have hb := B.bytes
  have hr := B.returns
  have hts := atoms_spec (ws := (ws_ yX0_votes cX0_votes 2 (some .int))) B.pre
  have hts : ∀ w ∈ lw_all, w.before _ s = true := fun w h => hts w (List.mem_cons_of_mem _ h)
  have hown : s.vm.findClass RX0 = some m.cls := findClass_of_methodNamed B.named
  have hlocks := B.notSynchronized
  have hRf : 8 ≤ (headSpec (ws_ yX0_votes cX0_votes 2 (some .int)) ({ frames := 8, cells := 0, slots := 0, locals := 189 })).room.frames := Nat.le_refl _
  have hRl : 189 ≤ (headSpec (ws_ yX0_votes cX0_votes 2 (some .int)) ({ frames := 8, cells := 0, slots := 0, locals := 189 })).room.locals := Nat.le_refl _
  have hcs : 0 ≤ (headSpec (ws_ yX0_votes cX0_votes 2 (some .int)) ({ frames := 8, cells := 0, slots := 0, locals := 189 })).room.cells ∧ 0 ≤ (headSpec (ws_ yX0_votes cX0_votes 2 (some .int)) ({ frames := 8, cells := 0, slots := 0, locals := 189 })).room.slots := ⟨Nat.zero_le _, Nat.zero_le _⟩
  have hl := lv_entry ([.ref (ad 199), .int a0]) (n := 2) (Nat.le_of_ble_eq_true rfl)
  rw [lg_entry_eq]
  generalize (lg_sl ([.ref (ad 199), .int a0]) ++ List.replicate (2 - (lg_sl ([.ref (ad 199), .int a0])).length) Slot.unset).toArray = ls at hl ⊢
  have hl : lv_has ls 2 [(0, .ref (ad 199)), (1, .int a0)] := hl
  have hf : (ob1 (x_isPerson I A R G pl n ks a0) fun (v1 : Int32) =>
    ob1 (if v1 = 0 then ((some (-1000001) : Option (Int32))) else (ob1 (x_isCandidate I A R G pl n ks a0) fun (v4 : Int32) =>
        if v4 = 0 then ((some (-1000001) : Option (Int32))) else (ob1 (x_votesFor I A R G pl n ks a0) fun (v6 : Int32) =>
          (some v6 : Option (Int32))))) fun (v2 : Int32) =>
    some v2) = some r := hf
  refine lv_aload_n hx hb dX0_votes_0 rfl (lv_at hl 0 rfl) ?_
  refine lv_iload_n hx hb dX0_votes_1 rfl (lv_at hl 1 rfl) ?_
  obtain ⟨v1, h1, hf⟩ := ob1_e hf
  refine x_vR (ov := some (.int v1)) (D := D) (s0 := s0) (Sc := xS) (adc := ad) (Ic := I) (Ac := A) (Rc := R) (Gc := G) (Xc := X) (base := base) (As := [.int a0]) (rest := []) (b := ad 199) (C := RX0) ⟨hx, hb, hml, hown, hts⟩ (x_isPerson_met l D s0 h0 ad X base I A R G pl n ks hR a0 v1 h1) (g_cwV 1 hts (lw_V q761 q763 qs18 q76 q764) rfl rfl x_isPerson_ds ⟨Nat.le_trans (Nat.le_of_ble_eq_true rfl) hRf, Nat.le_trans (Nat.le_of_ble_eq_true rfl) hRl⟩) (x_recv hK hW xO199 rfl) hK hY hB hW hcs rfl hl.1 rfl (Nat.le_of_ble_eq_true rfl) dX0_votes_2 ?_
  obtain ⟨v2, hm2, hf⟩ := ob1_e hf
  refine w_cutL (nL := 2) (L := []) (pcj := 26) (st := [.int v2]) (fun ls hl => ?_) (fun K2 => ?_)
  · obtain rfl := so1 hf
    exact W.iret hx hb hr (fun t ht _ => ⟨rfl, ht⟩) (fun q hq => by cases hq) dX0_votes_26
  · refine lv_if_eq (tgt := 24) hx hb dX0_votes_5 (by decide) (fun c3 => ?_) (fun c3 => ?_)
    · rw [if_pos c3] at hm2
      refine lv_ldc (v := (-1000001)) hx hb hown (hts _ q289) dX0_votes_24 ?_
      obtain rfl := so1 hm2
      exact K2 ls (lv_sub hl [] rfl)
    · rw [if_neg c3] at hm2
      refine lv_aload_n hx hb dX0_votes_8 rfl (lv_at hl 0 rfl) ?_
      refine lv_iload_n hx hb dX0_votes_9 rfl (lv_at hl 1 rfl) ?_
      obtain ⟨v4, h4, hm2⟩ := ob1_e hm2
      refine x_vR (ov := some (.int v4)) (D := D) (s0 := s0) (Sc := xS) (adc := ad) (Ic := I) (Ac := A) (Rc := R) (Gc := G) (Xc := X) (base := base) (As := [.int a0]) (rest := []) (b := ad 199) (C := RX0) ⟨hx, hb, hml, hown, hts⟩ (x_isCandidate_met l D s0 h0 ad X base I A R G pl n ks hR a0 v4 h4) (g_cwV 1 hts (lw_V q972 q974 qs27 q76 q975) rfl rfl x_isCandidate_ds ⟨Nat.le_trans (Nat.le_of_ble_eq_true rfl) hRf, Nat.le_trans (Nat.le_of_ble_eq_true rfl) hRl⟩) (x_recv hK hW xO199 rfl) hK hY hB hW hcs rfl hl.1 rfl (Nat.le_of_ble_eq_true rfl) dX0_votes_10 ?_
      refine lv_if_eq (tgt := 24) hx hb dX0_votes_13 (by decide) (fun c5 => ?_) (fun c5 => ?_)
      · rw [if_pos c5] at hm2
        refine lv_ldc (v := (-1000001)) hx hb hown (hts _ q289) dX0_votes_24 ?_
        obtain rfl := so1 hm2
        exact K2 ls (lv_sub hl [] rfl)
      · rw [if_neg c5] at hm2
        refine lv_aload_n hx hb dX0_votes_16 rfl (lv_at hl 0 rfl) ?_
        refine lv_iload_n hx hb dX0_votes_17 rfl (lv_at hl 1 rfl) ?_
        obtain ⟨v6, h6, hm2⟩ := ob1_e hm2
        refine x_vR (ov := some (.int v6)) (D := D) (s0 := s0) (Sc := xS) (adc := ad) (Ic := I) (Ac := A) (Rc := R) (Gc := G) (Xc := X) (base := base) (As := [.int a0]) (rest := []) (b := ad 199) (C := RX0) ⟨hx, hb, hml, hown, hts⟩ (x_votesFor_met l D s0 h0 ad X base I A R G pl n ks hR a0 v6 h6) (g_cwV 1 hts (lw_V q990 q992 qs28 q76 q993) rfl rfl x_votesFor_ds ⟨Nat.le_trans (Nat.le_of_ble_eq_true rfl) hRf, Nat.le_trans (Nat.le_of_ble_eq_true rfl) hRl⟩) (x_recv hK hW xO199 rfl) hK hY hB hW hcs rfl hl.1 rfl (Nat.le_of_ble_eq_true rfl) dX0_votes_18 ?_
        refine lv_goto (tgt := 26) hx hb dX0_votes_21 (by decide) ?_
        obtain rfl := so1 hm2
        exact K2 ls (lv_sub hl [] rfl)
theorem x_votes_ds : yX0_votes.cls = RX0 ∧ yX0_votes.cls ≠ "java/lang/invoke/MethodHandle" ∧ yX0_votes.cls ≠ "java/lang/invoke/VarHandle" ∧ (parseMethodDescriptor yX0_votes.desc).map (fun d => d.parameters.length) = some 1 := by decide +kernel
def x_wins_L16 (I : Nat → Int32) (A : Nat → Nat → Int32) (R : Nat → Option Nat) (G : Nat → Nat → Option Nat) (pl n : Nat) (ks : Nat → Nat) : Nat → Int32 → Int32 → Option (Int32 × Int32)
  | 0, _, _ => none
  | k + 1, x1, x2 =>
    ob1 (p_many (sh 200 I) (sh 200 A) (sh 200 R) pl n ks) fun (v1 : Int32) =>
    if v1 ≤ x2 then (some (x1, x2)) else (ob1 (x_isCandidate I A R G pl n ks x2) fun (v3 : Int32) =>
      ob1 (if v3 = 0 then ((some x1 : Option (Int32))) else (ob1 (p_crushed (sh 200 I) (sh 200 A) (sh 200 R) pl n ks) fun (v6 : Int32) =>
          ob1 (x_has v6 x2) fun (v7 : Int32) =>
          if v7 = 0 then (ob1 (if x1 = (-1000000) then ((some x2 : Option (Int32))) else (ob1 (x_votesFor I A R G pl n ks x2) fun (v11 : Int32) =>
                ob1 (x_votesFor I A R G pl n ks x1) fun (v12 : Int32) =>
                if v11 ≤ v12 then ((some x1 : Option (Int32))) else ((some x2 : Option (Int32))))) fun (v9 : Int32) =>
            (some v9 : Option (Int32))) else ((some x1 : Option (Int32))))) fun (v4 : Int32) =>
      x_wins_L16 I A R G pl n ks k v4 (x2 + 1))
set_option maxRecDepth 100000 in
set_option maxHeartbeats 4000000 in
theorem x_wins_L16_w {p : Program} {l : Launch} {e : Env} {R0 : Room} {s : State} {m : MethodId} {args : Array Value} {below : List Frame} {meth : Method} {c : Code} {cells slots : Nat} {Q : State → Prop} {D : dd_} {s0 : State} {ad : Nat → Nat} {X : va_W} {base : Nat} (hx : p.tables.exec = Jvm.exec) (hb : c.code = cX0_wins) (hml : c.maxLocals = 3) (hown : s.vm.findClass RX0 = some m.cls) (hts : ∀ w ∈ lw_all, w.before args s = true) (hK : Kx D s) (hY : s0.WarmedH s.vm) (h0 : ∀ w ∈ lw_tbl, va_Nw w s0) (hRf : 8 ≤ R0.frames) (hRl : 189 ≤ R0.locals) (hcs : cells ≤ R0.cells ∧ slots ≤ R0.slots) {H : Heap} {locs : List Loc} (hB : base ≤ H.size) (I : Nat → Int32) (A : Nat → Nat → Int32) (R : Nat → Option Nat) (G : Nat → Nat → Option Nat) (pl n : Nat) (ks : Nat → Nat) (hR : RegX D X pl n ks) (hW : WX D xS ad I A R G X H) (y1 : Int32) (y2 : Int32) (KX : ∀ (ls : Array Slot), lv_has ls 3 [(1, .int y1)] → W p l e R0 s m args below meth c H locs cells slots Q (F0 m 84 ls [])) : ∀ (k : Nat) (x1 : Int32) (x2 : Int32) (ls : Array Slot), x_wins_L16 I A R G pl n ks k x1 x2 = some (y1, y2) → lv_has ls 3 [(0, .ref (ad 199)), (1, .int x1), (2, .int x2)] → W p l e R0 s m args below meth c H locs cells slots Q (F0 m 16 ls []) := by
  intro k
  induction k with
  | zero =>
    intro x1 x2 ls hf
    exact nomatch (show (none : Option (Int32 × Int32)) = some (y1, y2) from hf)
  | succ k ih =>
    intro x1 x2 ls hf hl
    have hf : (ob1 (p_many (sh 200 I) (sh 200 A) (sh 200 R) pl n ks) fun (v1 : Int32) =>
        if v1 ≤ x2 then (some (x1, x2)) else (ob1 (x_isCandidate I A R G pl n ks x2) fun (v3 : Int32) =>
          ob1 (if v3 = 0 then ((some x1 : Option (Int32))) else (ob1 (p_crushed (sh 200 I) (sh 200 A) (sh 200 R) pl n ks) fun (v6 : Int32) =>
              ob1 (x_has v6 x2) fun (v7 : Int32) =>
              if v7 = 0 then (ob1 (if x1 = (-1000000) then ((some x2 : Option (Int32))) else (ob1 (x_votesFor I A R G pl n ks x2) fun (v11 : Int32) =>
                    ob1 (x_votesFor I A R G pl n ks x1) fun (v12 : Int32) =>
                    if v11 ≤ v12 then ((some x1 : Option (Int32))) else ((some x2 : Option (Int32))))) fun (v9 : Int32) =>
                (some v9 : Option (Int32))) else ((some x1 : Option (Int32))))) fun (v4 : Int32) =>
          x_wins_L16 I A R G pl n ks k v4 (x2 + 1))) = some (y1, y2) := hf
    refine lv_iload_n hx hb dX0_wins_16 rfl (lv_at hl 2 rfl) ?_
    refine lv_aload_n hx hb dX0_wins_17 rfl (lv_at hl 0 rfl) ?_
    refine x_get (v := .ref (ad 299)) hx hb hts hown hK hW xO199 in_X0 rfl 4 (by decide) q228 rfl rfl dX0_wins_18 ?_
    obtain ⟨v1, h1, hf⟩ := ob1_e hf
    refine x_vR (ov := some (.int v1)) (D := D) (s0 := s0) (Sc := pS) (adc := (sh 200 ad)) (Ic := (sh 200 I)) (Ac := (sh 200 A)) (Rc := (sh 200 R)) (Gc := nG) (Xc := (xr200 D ad I A R G X)) (base := base) (As := []) (rest := [.int x2]) (b := ad 299) (C := RX1) ⟨hx, hb, hml, hown, hts⟩ (p_many_met l D s0 h0 (sh 200 ad) (xr200 D ad I A R G X) base (sh 200 I) (sh 200 A) (sh 200 R) pl n ks (xrg200 hR)  v1 h1) (g_cwV 0 hts (lw_V q747 q602 q603 q77 q604) rfl rfl p_many_ds ⟨Nat.le_trans (Nat.le_of_ble_eq_true rfl) hRf, Nat.le_trans (Nat.le_of_ble_eq_true rfl) hRl⟩) (x_recv hK hW xO299 rfl) hK hY hB (xw200 hW) hcs rfl hl.1 rfl (Nat.le_of_ble_eq_true rfl) dX0_wins_21 ?_
    refine lv_icmp_ge (tgt := 84) hx hb dX0_wins_24 (by decide) (fun c2 => ?_) (fun c2 => ?_)
    · rw [if_pos c2] at hf
      obtain ⟨rfl, rfl⟩ := so2 hf
      exact KX ls (lv_sub hl [1] rfl)
    · rw [if_neg c2] at hf
      refine lv_aload_n hx hb dX0_wins_27 rfl (lv_at hl 0 rfl) ?_
      refine lv_iload_n hx hb dX0_wins_28 rfl (lv_at hl 2 rfl) ?_
      obtain ⟨v3, h3, hf⟩ := ob1_e hf
      refine x_vR (ov := some (.int v3)) (D := D) (s0 := s0) (Sc := xS) (adc := ad) (Ic := I) (Ac := A) (Rc := R) (Gc := G) (Xc := X) (base := base) (As := [.int x2]) (rest := []) (b := ad 199) (C := RX0) ⟨hx, hb, hml, hown, hts⟩ (x_isCandidate_met l D s0 h0 ad X base I A R G pl n ks hR x2 v3 h3) (g_cwV 1 hts (lw_V q972 q974 qs27 q76 q975) rfl rfl x_isCandidate_ds ⟨Nat.le_trans (Nat.le_of_ble_eq_true rfl) hRf, Nat.le_trans (Nat.le_of_ble_eq_true rfl) hRl⟩) (x_recv hK hW xO199 rfl) hK hY hB hW hcs rfl hl.1 rfl (Nat.le_of_ble_eq_true rfl) dX0_wins_29 ?_
      obtain ⟨v4, hm4, hf⟩ := ob1_e hf
      refine w_cutL (nL := 3) (L := [(0, .ref (ad 199)), (1, .int v4), (2, .int x2)]) (pcj := 78) (st := []) (fun ls hl => ?_) (fun K4 => ?_)
      · refine lv_iinc (v := x2 + 1) (lv' := [(2, .int (x2 + 1)), (0, .ref (ad 199)), (1, .int v4)]) hx hb dX0_wins_78 hl (k := 2) rfl (by rfl) (by decide) rfl (fun ls hl => ?_)
        refine lv_goto (tgt := 16) hx hb dX0_wins_81 (by decide) ?_
        exact ih v4 (x2 + 1) ls hf (lv_sub hl [1, 2, 0] rfl)
      · refine lv_if_eq (tgt := 78) hx hb dX0_wins_32 (by decide) (fun c5 => ?_) (fun c5 => ?_)
        · rw [if_pos c5] at hm4
          obtain rfl := so1 hm4
          exact K4 ls (lv_sub hl [0, 1, 2] rfl)
        · rw [if_neg c5] at hm4
          refine lv_aload_n hx hb dX0_wins_35 rfl (lv_at hl 0 rfl) ?_
          refine x_get (v := .ref (ad 299)) hx hb hts hown hK hW xO199 in_X0 rfl 4 (by decide) q228 rfl rfl dX0_wins_36 ?_
          obtain ⟨v6, h6, hm4⟩ := ob1_e hm4
          refine x_vR (ov := some (.int v6)) (D := D) (s0 := s0) (Sc := pS) (adc := (sh 200 ad)) (Ic := (sh 200 I)) (Ac := (sh 200 A)) (Rc := (sh 200 R)) (Gc := nG) (Xc := (xr200 D ad I A R G X)) (base := base) (As := []) (rest := []) (b := ad 299) (C := RX1) ⟨hx, hb, hml, hown, hts⟩ (p_crushed_met l D s0 h0 (sh 200 ad) (xr200 D ad I A R G X) base (sh 200 I) (sh 200 A) (sh 200 R) pl n ks (xrg200 hR)  v6 h6) (g_cwV 0 hts (lw_V q889 q890 q891 q77 q892) rfl rfl p_crushed_ds ⟨Nat.le_trans (Nat.le_of_ble_eq_true rfl) hRf, Nat.le_trans (Nat.le_of_ble_eq_true rfl) hRl⟩) (x_recv hK hW xO299 rfl) hK hY hB (xw200 hW) hcs rfl hl.1 rfl (Nat.le_of_ble_eq_true rfl) dX0_wins_39 ?_
          refine lv_iload_n hx hb dX0_wins_42 rfl (lv_at hl 2 rfl) ?_
          obtain ⟨v7, h7, hm4⟩ := ob1_e hm4
          refine x_sR (ov := some (.int v7)) (D := D) (s0 := s0) (Sc := nS) (adc := ad) (Ic := (fun _ => 0)) (Ac := (fun _ _ => 0)) (Rc := nR) (Gc := nG) (Xc := []) (base := base) (As := [.int v6, .int x2]) (rest := []) ⟨hx, hb, hml, hown, hts⟩ (x_has_met l D s0 h0 ad [] base v6 x2 v7 h7) (va_cwS 2 hts (lw_S q853 q784 q76 q785) rfl rfl rfl x_has_ds.2 ⟨Nat.le_trans (Nat.le_of_ble_eq_true rfl) hRf, Nat.le_trans (Nat.le_of_ble_eq_true rfl) hRl⟩) hK hY hB WX_nil hcs rfl hl.1 rfl (Nat.le_of_ble_eq_true rfl) dX0_wins_43 ?_
          refine lv_if_eq (tgt := 52) hx hb dX0_wins_46 (by decide) (fun c8 => ?_) (fun c8 => ?_)
          · rw [if_pos c8] at hm4
            refine lv_iload_n hx hb dX0_wins_52 rfl (lv_at hl 1 rfl) ?_
            refine lv_ldcw (v := (-1000000)) hx hb hown (hts _ q941) dX0_wins_53 ?_
            obtain ⟨v9, hm9, hm4⟩ := ob1_e hm4
            refine w_cutL (nL := 3) (L := [(0, .ref (ad 199)), (2, .int x2)]) (pcj := 77) (st := [.int v9]) (fun ls hl => ?_) (fun K9 => ?_)
            · refine lv_istore_n (lv' := [(1, .int v9), (0, .ref (ad 199)), (2, .int x2)]) hx hb dX0_wins_77 rfl hl (by decide) rfl (fun ls hl => ?_)
              obtain rfl := so1 hm4
              exact K4 ls (lv_sub hl [1, 0, 2] rfl)
            · refine lv_icmp_eq (tgt := 72) hx hb dX0_wins_56 (by decide) (fun c10 => ?_) (fun c10 => ?_)
              · rw [if_pos c10] at hm9
                refine lv_iload_n hx hb dX0_wins_72 rfl (lv_at hl 2 rfl) ?_
                refine lv_goto (tgt := 77) hx hb dX0_wins_73 (by decide) ?_
                obtain rfl := so1 hm9
                exact K9 ls (lv_sub hl [0, 2] rfl)
              · rw [if_neg c10] at hm9
                refine lv_aload_n hx hb dX0_wins_59 rfl (lv_at hl 0 rfl) ?_
                refine lv_iload_n hx hb dX0_wins_60 rfl (lv_at hl 2 rfl) ?_
                obtain ⟨v11, h11, hm9⟩ := ob1_e hm9
                refine x_vR (ov := some (.int v11)) (D := D) (s0 := s0) (Sc := xS) (adc := ad) (Ic := I) (Ac := A) (Rc := R) (Gc := G) (Xc := X) (base := base) (As := [.int x2]) (rest := []) (b := ad 199) (C := RX0) ⟨hx, hb, hml, hown, hts⟩ (x_votesFor_met l D s0 h0 ad X base I A R G pl n ks hR x2 v11 h11) (g_cwV 1 hts (lw_V q990 q992 qs28 q76 q993) rfl rfl x_votesFor_ds ⟨Nat.le_trans (Nat.le_of_ble_eq_true rfl) hRf, Nat.le_trans (Nat.le_of_ble_eq_true rfl) hRl⟩) (x_recv hK hW xO199 rfl) hK hY hB hW hcs rfl hl.1 rfl (Nat.le_of_ble_eq_true rfl) dX0_wins_61 ?_
                refine lv_aload_n hx hb dX0_wins_64 rfl (lv_at hl 0 rfl) ?_
                refine lv_iload_n hx hb dX0_wins_65 rfl (lv_at hl 1 rfl) ?_
                obtain ⟨v12, h12, hm9⟩ := ob1_e hm9
                refine x_vR (ov := some (.int v12)) (D := D) (s0 := s0) (Sc := xS) (adc := ad) (Ic := I) (Ac := A) (Rc := R) (Gc := G) (Xc := X) (base := base) (As := [.int x1]) (rest := [.int v11]) (b := ad 199) (C := RX0) ⟨hx, hb, hml, hown, hts⟩ (x_votesFor_met l D s0 h0 ad X base I A R G pl n ks hR x1 v12 h12) (g_cwV 1 hts (lw_V q990 q992 qs28 q76 q993) rfl rfl x_votesFor_ds ⟨Nat.le_trans (Nat.le_of_ble_eq_true rfl) hRf, Nat.le_trans (Nat.le_of_ble_eq_true rfl) hRl⟩) (x_recv hK hW xO199 rfl) hK hY hB hW hcs rfl hl.1 rfl (Nat.le_of_ble_eq_true rfl) dX0_wins_66 ?_
                refine lv_icmp_le (tgt := 76) hx hb dX0_wins_69 (by decide) (fun c13 => ?_) (fun c13 => ?_)
                · rw [if_pos c13] at hm9
                  refine lv_iload_n hx hb dX0_wins_76 rfl (lv_at hl 1 rfl) ?_
                  obtain rfl := so1 hm9
                  exact K9 ls (lv_sub hl [0, 2] rfl)
                · rw [if_neg c13] at hm9
                  refine lv_iload_n hx hb dX0_wins_72 rfl (lv_at hl 2 rfl) ?_
                  refine lv_goto (tgt := 77) hx hb dX0_wins_73 (by decide) ?_
                  obtain rfl := so1 hm9
                  exact K9 ls (lv_sub hl [0, 2] rfl)
          · rw [if_neg c8] at hm4
            refine lv_goto (tgt := 78) hx hb dX0_wins_49 (by decide) ?_
            obtain rfl := so1 hm4
            exact K4 ls (lv_sub hl [0, 1, 2] rfl)
def x_wins (I : Nat → Int32) (A : Nat → Nat → Int32) (R : Nat → Option Nat) (G : Nat → Nat → Option Nat) (pl n : Nat) (ks : Nat → Nat) : Option (Int32) :=
  ob1 (x_isParish I A R G pl n ks) fun (v1 : Int32) =>
  if v1 = 0 then (some (-1000002)) else (ob2 (x_wins_L16 I A R G pl n ks NF (-1000000) 0) fun (v3 : Int32) (v4 : Int32) =>
    some v3)
set_option maxRecDepth 100000 in
set_option maxHeartbeats 4000000 in
theorem x_wins_met (l : Launch) (D : dd_) (s0 : State) (h0 : ∀ w ∈ lw_tbl, va_Nw w s0) (ad : Nat → Nat) (X : va_W) (base : Nat) (I : Nat → Int32) (A : Nat → Nat → Int32) (R : Nat → Option Nat) (G : Nat → Nat → Option Nat) (pl n : Nat) (ks : Nat → Nat) (hR : RegX D X pl n ks) (r : Int32) (hf : x_wins I A R G pl n ks  = some r) : Met l yX0_wins (ws_ yX0_wins cX0_wins 3 (some .int)) ({ frames := 8, cells := 0, slots := 0, locals := 189 }) (PcX D s0 xS ad I A R G X base [.ref (ad 199)]) (QcR (some (.int r))) 0 0 (fun _ => False) := by
  refine Met.ofW (cc := cX0_wins) (maxL := 3) (ret := (some .int)) (by decide) rfl ?_
  intro p e s m args below meth c s₁ B hml hv
  obtain ⟨rfl, hK, hY, hB, hW⟩ := hv
  have hx := B.exec
  have hb := B.bytes
  have hr := B.returns
  have hts := atoms_spec (ws := (ws_ yX0_wins cX0_wins 3 (some .int))) B.pre
  have hts : ∀ w ∈ lw_all, w.before _ s = true := fun w h => hts w (List.mem_cons_of_mem _ h)
  have hown : s.vm.findClass RX0 = some m.cls := findClass_of_methodNamed B.named
  have hlocks := B.notSynchronized
  have hRf : 8 ≤ (headSpec (ws_ yX0_wins cX0_wins 3 (some .int)) ({ frames := 8, cells := 0, slots := 0, locals := 189 })).room.frames := Nat.le_refl _
  have hRl : 189 ≤ (headSpec (ws_ yX0_wins cX0_wins 3 (some .int)) ({ frames := 8, cells := 0, slots := 0, locals := 189 })).room.locals := Nat.le_refl _
  have hcs : 0 ≤ (headSpec (ws_ yX0_wins cX0_wins 3 (some .int)) ({ frames := 8, cells := 0, slots := 0, locals := 189 })).room.cells ∧ 0 ≤ (headSpec (ws_ yX0_wins cX0_wins 3 (some .int)) ({ frames := 8, cells := 0, slots := 0, locals := 189 })).room.slots := ⟨Nat.zero_le _, Nat.zero_le _⟩
  have hl := lv_entry ([.ref (ad 199)]) (n := 3) (Nat.le_of_ble_eq_true rfl)
  rw [lg_entry_eq]
  generalize (lg_sl ([.ref (ad 199)]) ++ List.replicate (3 - (lg_sl ([.ref (ad 199)])).length) Slot.unset).toArray = ls at hl ⊢
  have hl : lv_has ls 3 [(0, .ref (ad 199))] := hl
  have hf : (ob1 (x_isParish I A R G pl n ks) fun (v1 : Int32) =>
    if v1 = 0 then (some (-1000002)) else (ob2 (x_wins_L16 I A R G pl n ks NF (-1000000) 0) fun (v3 : Int32) (v4 : Int32) =>
      some v3)) = some r := hf
  refine lv_aload_n hx hb dX0_wins_0 rfl (lv_at hl 0 rfl) ?_
  obtain ⟨v1, h1, hf⟩ := ob1_e hf
  refine x_vR (ov := some (.int v1)) (D := D) (s0 := s0) (Sc := xS) (adc := ad) (Ic := I) (Ac := A) (Rc := R) (Gc := G) (Xc := X) (base := base) (As := []) (rest := []) (b := ad 199) (C := RX0) ⟨hx, hb, hml, hown, hts⟩ (x_isParish_met l D s0 h0 ad X base I A R G pl n ks hR  v1 h1) (g_cwV 0 hts (lw_V q863 q865 qs21 q76 q866) rfl rfl x_isParish_ds ⟨Nat.le_trans (Nat.le_of_ble_eq_true rfl) hRf, Nat.le_trans (Nat.le_of_ble_eq_true rfl) hRl⟩) (x_recv hK hW xO199 rfl) hK hY hB hW hcs rfl hl.1 rfl (Nat.le_of_ble_eq_true rfl) dX0_wins_1 ?_
  refine lv_if_ne (tgt := 10) hx hb dX0_wins_4 (by decide) (fun c2 => ?_) (fun c2 => ?_)
  · rw [if_neg c2] at hf
    refine lv_ldcw (v := (-1000000)) hx hb hown (hts _ q941) dX0_wins_10 ?_
    refine lv_istore_n (lv' := [(1, .int (-1000000)), (0, .ref (ad 199))]) hx hb dX0_wins_13 rfl hl (by decide) rfl (fun ls hl => ?_)
    refine lv_iconst (v := 0) hx hb dX0_wins_14 (by decide) ?_
    refine lv_istore_n (lv' := [(2, .int 0), (1, .int (-1000000)), (0, .ref (ad 199))]) hx hb dX0_wins_15 rfl hl (by decide) rfl (fun ls hl => ?_)
    obtain ⟨v3, v4, hq4, hf⟩ := ob2_e hf
    refine x_wins_L16_w hx hb hml hown hts hK hY h0 hRf hRl hcs hB I A R G pl n ks hR hW v3 v4 (fun ls hl => ?_) NF (-1000000) 0 ls hq4 (lv_sub hl [2, 1, 0] rfl)
    refine lv_iload_n hx hb dX0_wins_84 rfl (lv_at hl 0 rfl) ?_
    obtain rfl := so1 hf
    exact W.iret hx hb hr (fun t ht _ => ⟨rfl, ht⟩) (fun q hq => by cases hq) dX0_wins_85
  · rw [if_pos c2] at hf
    refine lv_ldc (v := (-1000002)) hx hb hown (hts _ q756) dX0_wins_7 ?_
    obtain rfl := so1 hf
    exact W.iret hx hb hr (fun t ht _ => ⟨rfl, ht⟩) (fun q hq => by cases hq) dX0_wins_9
theorem x_wins_ds : yX0_wins.cls = RX0 ∧ yX0_wins.cls ≠ "java/lang/invoke/MethodHandle" ∧ yX0_wins.cls ≠ "java/lang/invoke/VarHandle" ∧ (parseMethodDescriptor yX0_wins.desc).map (fun d => d.parameters.length) = some 0 := by decide +kernel
def x_law_L14 (I : Nat → Int32) (A : Nat → Nat → Int32) (R : Nat → Option Nat) (G : Nat → Nat → Option Nat) (pl n : Nat) (ks : Nat → Nat) : Nat → Int32 → Int32 → Option (Int32 × Int32)
  | 0, _, _ => none
  | k + 1, x1, x2 =>
    if 40 < x2 then (some (x1, x2)) else (ob1 (p_crushedBy (sh 200 I) (sh 200 A) (sh 200 R) pl n ks x2) fun (v2 : Int32) =>
      ob1 (if v2 = 0 then ((some x2 : Option (Int32))) else ((some x1 : Option (Int32)))) fun (v3 : Int32) =>
      x_law_L14 I A R G pl n ks k v3 (x2 + 1))
set_option maxRecDepth 100000 in
set_option maxHeartbeats 4000000 in
theorem x_law_L14_w {p : Program} {l : Launch} {e : Env} {R0 : Room} {s : State} {m : MethodId} {args : Array Value} {below : List Frame} {meth : Method} {c : Code} {cells slots : Nat} {Q : State → Prop} {D : dd_} {s0 : State} {ad : Nat → Nat} {X : va_W} {base : Nat} (hx : p.tables.exec = Jvm.exec) (hb : c.code = cX0_law) (hml : c.maxLocals = 3) (hown : s.vm.findClass RX0 = some m.cls) (hts : ∀ w ∈ lw_all, w.before args s = true) (hK : Kx D s) (hY : s0.WarmedH s.vm) (h0 : ∀ w ∈ lw_tbl, va_Nw w s0) (hRf : 7 ≤ R0.frames) (hRl : 164 ≤ R0.locals) (hcs : cells ≤ R0.cells ∧ slots ≤ R0.slots) {H : Heap} {locs : List Loc} (hB : base ≤ H.size) (I : Nat → Int32) (A : Nat → Nat → Int32) (R : Nat → Option Nat) (G : Nat → Nat → Option Nat) (pl n : Nat) (ks : Nat → Nat) (hR : RegX D X pl n ks) (hW : WX D xS ad I A R G X H) (y1 : Int32) (y2 : Int32) (KX : ∀ (ls : Array Slot), lv_has ls 3 [(1, .int y1)] → W p l e R0 s m args below meth c H locs cells slots Q (F0 m 43 ls [])) : ∀ (k : Nat) (x1 : Int32) (x2 : Int32) (ls : Array Slot), x_law_L14 I A R G pl n ks k x1 x2 = some (y1, y2) → lv_has ls 3 [(0, .ref (ad 199)), (1, .int x1), (2, .int x2)] → W p l e R0 s m args below meth c H locs cells slots Q (F0 m 14 ls []) := by
  intro k
  induction k with
  | zero =>
    intro x1 x2 ls hf
    exact nomatch (show (none : Option (Int32 × Int32)) = some (y1, y2) from hf)
  | succ k ih =>
    intro x1 x2 ls hf hl
    have hf : (if 40 < x2 then (some (x1, x2)) else (ob1 (p_crushedBy (sh 200 I) (sh 200 A) (sh 200 R) pl n ks x2) fun (v2 : Int32) =>
          ob1 (if v2 = 0 then ((some x2 : Option (Int32))) else ((some x1 : Option (Int32)))) fun (v3 : Int32) =>
          x_law_L14 I A R G pl n ks k v3 (x2 + 1))) = some (y1, y2) := hf
    refine lv_iload_n hx hb dX0_law_14 rfl (lv_at hl 2 rfl) ?_
    refine lv_bipush (v := 40) hx hb dX0_law_15 (by decide) ?_
    refine lv_icmp_gt (tgt := 43) hx hb dX0_law_17 (by decide) (fun c1 => ?_) (fun c1 => ?_)
    · rw [if_pos c1] at hf
      obtain ⟨rfl, rfl⟩ := so2 hf
      exact KX ls (lv_sub hl [1] rfl)
    · rw [if_neg c1] at hf
      refine lv_aload_n hx hb dX0_law_20 rfl (lv_at hl 0 rfl) ?_
      refine x_get (v := .ref (ad 299)) hx hb hts hown hK hW xO199 in_X0 rfl 4 (by decide) q228 rfl rfl dX0_law_21 ?_
      refine lv_iload_n hx hb dX0_law_24 rfl (lv_at hl 2 rfl) ?_
      obtain ⟨v2, h2, hf⟩ := ob1_e hf
      refine x_vR (ov := some (.int v2)) (D := D) (s0 := s0) (Sc := pS) (adc := (sh 200 ad)) (Ic := (sh 200 I)) (Ac := (sh 200 A)) (Rc := (sh 200 R)) (Gc := nG) (Xc := (xr200 D ad I A R G X)) (base := base) (As := [.int x2]) (rest := []) (b := ad 299) (C := RX1) ⟨hx, hb, hml, hown, hts⟩ (p_crushedBy_met l D s0 h0 (sh 200 ad) (xr200 D ad I A R G X) base (sh 200 I) (sh 200 A) (sh 200 R) pl n ks (xrg200 hR) x2 v2 h2) (g_cwV 1 hts (lw_V q1010 q894 q895 q77 q896) rfl rfl p_crushedBy_ds ⟨Nat.le_trans (Nat.le_of_ble_eq_true rfl) hRf, Nat.le_trans (Nat.le_of_ble_eq_true rfl) hRl⟩) (x_recv hK hW xO299 rfl) hK hY hB (xw200 hW) hcs rfl hl.1 rfl (Nat.le_of_ble_eq_true rfl) dX0_law_25 ?_
      obtain ⟨v3, hm3, hf⟩ := ob1_e hf
      refine w_cutL (nL := 3) (L := [(0, .ref (ad 199)), (2, .int x2)]) (pcj := 36) (st := [.int v3]) (fun ls hl => ?_) (fun K3 => ?_)
      · refine lv_istore_n (lv' := [(1, .int v3), (0, .ref (ad 199)), (2, .int x2)]) hx hb dX0_law_36 rfl hl (by decide) rfl (fun ls hl => ?_)
        refine lv_iinc (v := x2 + 1) (lv' := [(2, .int (x2 + 1)), (1, .int v3), (0, .ref (ad 199))]) hx hb dX0_law_37 hl (k := 2) rfl (by rfl) (by decide) rfl (fun ls hl => ?_)
        refine lv_goto (tgt := 14) hx hb dX0_law_40 (by decide) ?_
        exact ih v3 (x2 + 1) ls hf (lv_sub hl [2, 1, 0] rfl)
      · refine lv_if_ne (tgt := 35) hx hb dX0_law_28 (by decide) (fun c4 => ?_) (fun c4 => ?_)
        · rw [if_neg c4] at hm3
          refine lv_iload_n hx hb dX0_law_35 rfl (lv_at hl 1 rfl) ?_
          obtain rfl := so1 hm3
          exact K3 ls (lv_sub hl [0, 2] rfl)
        · rw [if_pos c4] at hm3
          refine lv_iload_n hx hb dX0_law_31 rfl (lv_at hl 2 rfl) ?_
          refine lv_goto (tgt := 36) hx hb dX0_law_32 (by decide) ?_
          obtain rfl := so1 hm3
          exact K3 ls (lv_sub hl [0, 2] rfl)
def x_law (I : Nat → Int32) (A : Nat → Nat → Int32) (R : Nat → Option Nat) (G : Nat → Nat → Option Nat) (pl n : Nat) (ks : Nat → Nat) : Option (Int32) :=
  ob1 (x_isParish I A R G pl n ks) fun (v1 : Int32) =>
  if v1 = 0 then (some (-1000002)) else (ob2 (x_law_L14 I A R G pl n ks NF 0 1) fun (v3 : Int32) (v4 : Int32) =>
    some v3)
set_option maxRecDepth 100000 in
set_option maxHeartbeats 4000000 in
theorem x_law_met (l : Launch) (D : dd_) (s0 : State) (h0 : ∀ w ∈ lw_tbl, va_Nw w s0) (ad : Nat → Nat) (X : va_W) (base : Nat) (I : Nat → Int32) (A : Nat → Nat → Int32) (R : Nat → Option Nat) (G : Nat → Nat → Option Nat) (pl n : Nat) (ks : Nat → Nat) (hR : RegX D X pl n ks) (r : Int32) (hf : x_law I A R G pl n ks  = some r) : Met l yX0_law (ws_ yX0_law cX0_law 3 (some .int)) ({ frames := 7, cells := 0, slots := 0, locals := 164 }) (PcX D s0 xS ad I A R G X base [.ref (ad 199)]) (QcR (some (.int r))) 0 0 (fun _ => False) := by
  refine Met.ofW (cc := cX0_law) (maxL := 3) (ret := (some .int)) (by decide) rfl ?_
  intro p e s m args below meth c s₁ B hml hv
  obtain ⟨rfl, hK, hY, hB, hW⟩ := hv
  have hx := B.exec
  have hb := B.bytes
  have hr := B.returns
  have hts := atoms_spec (ws := (ws_ yX0_law cX0_law 3 (some .int))) B.pre
  have hts : ∀ w ∈ lw_all, w.before _ s = true := fun w h => hts w (List.mem_cons_of_mem _ h)
  have hown : s.vm.findClass RX0 = some m.cls := findClass_of_methodNamed B.named
  have hlocks := B.notSynchronized
  have hRf : 7 ≤ (headSpec (ws_ yX0_law cX0_law 3 (some .int)) ({ frames := 7, cells := 0, slots := 0, locals := 164 })).room.frames := Nat.le_refl _
  have hRl : 164 ≤ (headSpec (ws_ yX0_law cX0_law 3 (some .int)) ({ frames := 7, cells := 0, slots := 0, locals := 164 })).room.locals := Nat.le_refl _
  have hcs : 0 ≤ (headSpec (ws_ yX0_law cX0_law 3 (some .int)) ({ frames := 7, cells := 0, slots := 0, locals := 164 })).room.cells ∧ 0 ≤ (headSpec (ws_ yX0_law cX0_law 3 (some .int)) ({ frames := 7, cells := 0, slots := 0, locals := 164 })).room.slots := ⟨Nat.zero_le _, Nat.zero_le _⟩
  have hl := lv_entry ([.ref (ad 199)]) (n := 3) (Nat.le_of_ble_eq_true rfl)
  rw [lg_entry_eq]
  generalize (lg_sl ([.ref (ad 199)]) ++ List.replicate (3 - (lg_sl ([.ref (ad 199)])).length) Slot.unset).toArray = ls at hl ⊢
  have hl : lv_has ls 3 [(0, .ref (ad 199))] := hl
  have hf : (ob1 (x_isParish I A R G pl n ks) fun (v1 : Int32) =>
    if v1 = 0 then (some (-1000002)) else (ob2 (x_law_L14 I A R G pl n ks NF 0 1) fun (v3 : Int32) (v4 : Int32) =>
      some v3)) = some r := hf
  refine lv_aload_n hx hb dX0_law_0 rfl (lv_at hl 0 rfl) ?_
  obtain ⟨v1, h1, hf⟩ := ob1_e hf
  refine x_vR (ov := some (.int v1)) (D := D) (s0 := s0) (Sc := xS) (adc := ad) (Ic := I) (Ac := A) (Rc := R) (Gc := G) (Xc := X) (base := base) (As := []) (rest := []) (b := ad 199) (C := RX0) ⟨hx, hb, hml, hown, hts⟩ (x_isParish_met l D s0 h0 ad X base I A R G pl n ks hR  v1 h1) (g_cwV 0 hts (lw_V q863 q865 qs21 q76 q866) rfl rfl x_isParish_ds ⟨Nat.le_trans (Nat.le_of_ble_eq_true rfl) hRf, Nat.le_trans (Nat.le_of_ble_eq_true rfl) hRl⟩) (x_recv hK hW xO199 rfl) hK hY hB hW hcs rfl hl.1 rfl (Nat.le_of_ble_eq_true rfl) dX0_law_1 ?_
  refine lv_if_ne (tgt := 10) hx hb dX0_law_4 (by decide) (fun c2 => ?_) (fun c2 => ?_)
  · rw [if_neg c2] at hf
    refine lv_iconst (v := 0) hx hb dX0_law_10 (by decide) ?_
    refine lv_istore_n (lv' := [(1, .int 0), (0, .ref (ad 199))]) hx hb dX0_law_11 rfl hl (by decide) rfl (fun ls hl => ?_)
    refine lv_iconst (v := 1) hx hb dX0_law_12 (by decide) ?_
    refine lv_istore_n (lv' := [(2, .int 1), (1, .int 0), (0, .ref (ad 199))]) hx hb dX0_law_13 rfl hl (by decide) rfl (fun ls hl => ?_)
    obtain ⟨v3, v4, hq4, hf⟩ := ob2_e hf
    refine x_law_L14_w hx hb hml hown hts hK hY h0 hRf hRl hcs hB I A R G pl n ks hR hW v3 v4 (fun ls hl => ?_) NF 0 1 ls hq4 (lv_sub hl [2, 1, 0] rfl)
    refine lv_iload_n hx hb dX0_law_43 rfl (lv_at hl 0 rfl) ?_
    obtain rfl := so1 hf
    exact W.iret hx hb hr (fun t ht _ => ⟨rfl, ht⟩) (fun q hq => by cases hq) dX0_law_44
  · rw [if_pos c2] at hf
    refine lv_ldc (v := (-1000002)) hx hb hown (hts _ q756) dX0_law_7 ?_
    obtain rfl := so1 hf
    exact W.iret hx hb hr (fun t ht _ => ⟨rfl, ht⟩) (fun q hq => by cases hq) dX0_law_9
theorem x_law_ds : yX0_law.cls = RX0 ∧ yX0_law.cls ≠ "java/lang/invoke/MethodHandle" ∧ yX0_law.cls ≠ "java/lang/invoke/VarHandle" ∧ (parseMethodDescriptor yX0_law.desc).map (fun d => d.parameters.length) = some 0 := by decide +kernel
def x_laySets_L14 (I : Nat → Int32) (R : Nat → Option Nat) (G : Nat → Nat → Option Nat) (pl n : Nat) (ks : Nat → Nat) (u1 : Int32) : Nat → (Nat → Nat → Int32) → Int32 → Option ((Nat → Nat → Int32) × Int32)
  | 0, _, _ => none
  | k + 1, A, x2 =>
    if 8 ≤ x2 then (some (A, x2)) else (ob1 (stO (A 115) 8 x2 0) fun (f2 : Nat → Int32) =>
      x_laySets_L14 I R G pl n ks u1 k (va_up A 115 f2) (x2 + 1))
set_option maxRecDepth 100000 in
set_option maxHeartbeats 4000000 in
theorem x_laySets_L14_w {p : Program} {l : Launch} {e : Env} {R0 : Room} {s : State} {m : MethodId} {args : Array Value} {below : List Frame} {meth : Method} {c : Code} {cells slots : Nat} {Q : State → Prop} {D : dd_} {s0 : State} {ad : Nat → Nat} {X : va_W} {base : Nat} (hx : p.tables.exec = Jvm.exec) (hb : c.code = cX0_laySets) (hml : c.maxLocals = 5) (hown : s.vm.findClass RX0 = some m.cls) (hts : ∀ w ∈ lw_all, w.before args s = true) (hK : Kx D s) (hY : s0.WarmedH s.vm) (h0 : ∀ w ∈ lw_tbl, va_Nw w s0) (hRf : 2 ≤ R0.frames) (hRl : 53 ≤ R0.locals) (hcs : cells ≤ R0.cells ∧ slots ≤ R0.slots) (hB0 : base ≤ s.heap.size) (hAP : AP xS ad X base) (I : Nat → Int32) (R : Nat → Option Nat) (G : Nat → Nat → Option Nat) (pl n : Nat) (ks : Nat → Nat) (u1 : Int32) (hR : RegX D X pl n ks) (A9 : (Nat → Nat → Int32)) (y2 : Int32) (KX : ∀ (H : Heap) (locs : List Loc) (ls : Array Slot), WX D xS ad I A9 R G X H → va_S (upB base) s.heap H locs → lv_has ls 5 [(0, .ref (ad 199)), (1, .int u1)] → W p l e R0 s m args below meth c H locs cells slots Q (F0 m 33 ls [])) : ∀ (k : Nat) (A : (Nat → Nat → Int32)) (x2 : Int32) (H : Heap) (locs : List Loc) (ls : Array Slot), x_laySets_L14 I R G pl n ks u1 k A x2 = some (A9, y2) → WX D xS ad I A R G X H → va_S (upB base) s.heap H locs → lv_has ls 5 [(0, .ref (ad 199)), (1, .int u1), (2, .int x2)] → W p l e R0 s m args below meth c H locs cells slots Q (F0 m 14 ls []) := by
  intro k
  induction k with
  | zero =>
    intro A x2 H locs ls hf
    exact nomatch (show (none : Option ((Nat → Nat → Int32) × Int32)) = some (A9, y2) from hf)
  | succ k ih =>
    intro A x2 H locs ls hf hW hS hl
    have hf : (if 8 ≤ x2 then (some (A, x2)) else (ob1 (stO (A 115) 8 x2 0) fun (f2 : Nat → Int32) =>
          x_laySets_L14 I R G pl n ks u1 k (va_up A 115 f2) (x2 + 1))) = some (A9, y2) := hf
    refine lv_iload_n hx hb dX0_laySets_14 rfl (lv_at hl 2 rfl) ?_
    refine lv_bipush (v := 8) hx hb dX0_laySets_15 (by decide) ?_
    refine lv_icmp_ge (tgt := 33) hx hb dX0_laySets_17 (by decide) (fun c1 => ?_) (fun c1 => ?_)
    · rw [if_pos c1] at hf
      obtain ⟨rfl, rfl⟩ := so2 hf
      exact KX _ _ ls hW hS (lv_sub hl [0, 1] rfl)
    · rw [if_neg c1] at hf
      refine lv_aload_n hx hb dX0_laySets_20 rfl (lv_at hl 0 rfl) ?_
      refine x_get (v := .ref (ad 115)) hx hb hts hown hK hW xO199 in_X0 rfl 15 (by decide) q239 rfl rfl dX0_laySets_21 ?_
      refine lv_iload_n hx hb dX0_laySets_24 rfl (lv_at hl 2 rfl) ?_
      refine lv_iconst (v := 0) hx hb dX0_laySets_25 (by decide) ?_
      obtain ⟨f2, hf2, hf⟩ := ob1_e hf
      refine x_iast hx hb hK xwf hAP hW hS xA115 hf2 dX0_laySets_26 (fun H locs hW hS => ?_)
      refine lv_iinc (v := x2 + 1) (lv' := [(2, .int (x2 + 1)), (0, .ref (ad 199)), (1, .int u1)]) hx hb dX0_laySets_27 hl (k := 2) rfl (by rfl) (by decide) rfl (fun ls hl => ?_)
      refine lv_goto (tgt := 14) hx hb dX0_laySets_30 (by decide) ?_
      exact ih (va_up A 115 f2) (x2 + 1) _ _ ls hf hW hS (lv_sub hl [1, 2, 0] rfl)
def x_laySets_L53 (I : Nat → Int32) (A : Nat → Nat → Int32) (R : Nat → Option Nat) (G : Nat → Nat → Option Nat) (pl n : Nat) (ks : Nat → Nat) (u1 : Int32) (u2 : Int32) : Nat → Int32 → Int32 → Option (Int32 × Int32)
  | 0, _, _ => none
  | k + 1, x3, x4 =>
    if (I 204) ≤ x4 then (some (x3, x4)) else (ob1 (x_has u2 x4) fun (v2 : Int32) =>
      ob1 (if v2 = 0 then ((some 0 : Option (Int32))) else (ob1 (ldO (A 207) 8 x4) fun (v5 : Int32) =>
          (some v5 : Option (Int32)))) fun (v3 : Int32) =>
      x_laySets_L53 I A R G pl n ks u1 u2 k (x3 + v3) (x4 + 1))
set_option maxRecDepth 100000 in
set_option maxHeartbeats 4000000 in
theorem x_laySets_L53_w {p : Program} {l : Launch} {e : Env} {R0 : Room} {s : State} {m : MethodId} {args : Array Value} {below : List Frame} {meth : Method} {c : Code} {cells slots : Nat} {Q : State → Prop} {D : dd_} {s0 : State} {ad : Nat → Nat} {X : va_W} {base : Nat} (hx : p.tables.exec = Jvm.exec) (hb : c.code = cX0_laySets) (hml : c.maxLocals = 5) (hown : s.vm.findClass RX0 = some m.cls) (hts : ∀ w ∈ lw_all, w.before args s = true) (hK : Kx D s) (hY : s0.WarmedH s.vm) (h0 : ∀ w ∈ lw_tbl, va_Nw w s0) (hRf : 2 ≤ R0.frames) (hRl : 53 ≤ R0.locals) (hcs : cells ≤ R0.cells ∧ slots ≤ R0.slots) {H : Heap} {locs : List Loc} (hB : base ≤ H.size) (I : Nat → Int32) (A : Nat → Nat → Int32) (R : Nat → Option Nat) (G : Nat → Nat → Option Nat) (pl n : Nat) (ks : Nat → Nat) (u1 : Int32) (u2 : Int32) (hR : RegX D X pl n ks) (hW : WX D xS ad I A R G X H) (y3 : Int32) (y4 : Int32) (KX : ∀ (ls : Array Slot), lv_has ls 5 [(0, .ref (ad 199)), (1, .int u1), (2, .int u2), (3, .int y3)] → W p l e R0 s m args below meth c H locs cells slots Q (F0 m 97 ls [])) : ∀ (k : Nat) (x3 : Int32) (x4 : Int32) (ls : Array Slot), x_laySets_L53 I A R G pl n ks u1 u2 k x3 x4 = some (y3, y4) → lv_has ls 5 [(0, .ref (ad 199)), (1, .int u1), (2, .int u2), (3, .int x3), (4, .int x4)] → W p l e R0 s m args below meth c H locs cells slots Q (F0 m 53 ls []) := by
  intro k
  induction k with
  | zero =>
    intro x3 x4 ls hf
    exact nomatch (show (none : Option (Int32 × Int32)) = some (y3, y4) from hf)
  | succ k ih =>
    intro x3 x4 ls hf hl
    have hf : (if (I 204) ≤ x4 then (some (x3, x4)) else (ob1 (x_has u2 x4) fun (v2 : Int32) =>
          ob1 (if v2 = 0 then ((some 0 : Option (Int32))) else (ob1 (ldO (A 207) 8 x4) fun (v5 : Int32) =>
              (some v5 : Option (Int32)))) fun (v3 : Int32) =>
          x_laySets_L53 I A R G pl n ks u1 u2 k (x3 + v3) (x4 + 1))) = some (y3, y4) := hf
    refine lv_iload hx hb dX0_laySets_53 (lv_at hl 4 rfl) ?_
    refine lv_aload_n hx hb dX0_laySets_55 rfl (lv_at hl 0 rfl) ?_
    refine x_get (v := .ref (ad 299)) hx hb hts hown hK hW xO199 in_X0 rfl 4 (by decide) q228 rfl rfl dX0_laySets_56 ?_
    refine x_get (v := .int (I 204)) hx hb hts hown hK hW xO299 in_X1 rfl 4 (by decide) q168 rfl rfl dX0_laySets_59 ?_
    refine lv_icmp_ge (tgt := 97) hx hb dX0_laySets_62 (by decide) (fun c1 => ?_) (fun c1 => ?_)
    · rw [if_pos c1] at hf
      obtain ⟨rfl, rfl⟩ := so2 hf
      exact KX ls (lv_sub hl [0, 1, 2, 3] rfl)
    · rw [if_neg c1] at hf
      refine lv_iload_n hx hb dX0_laySets_65 rfl (lv_at hl 3 rfl) ?_
      refine lv_iload_n hx hb dX0_laySets_66 rfl (lv_at hl 2 rfl) ?_
      refine lv_iload hx hb dX0_laySets_67 (lv_at hl 4 rfl) ?_
      obtain ⟨v2, h2, hf⟩ := ob1_e hf
      refine x_sR (ov := some (.int v2)) (D := D) (s0 := s0) (Sc := nS) (adc := ad) (Ic := (fun _ => 0)) (Ac := (fun _ _ => 0)) (Rc := nR) (Gc := nG) (Xc := []) (base := base) (As := [.int u2, .int x4]) (rest := [.int x3]) ⟨hx, hb, hml, hown, hts⟩ (x_has_met l D s0 h0 ad [] base u2 x4 v2 h2) (va_cwS 2 hts (lw_S q853 q784 q76 q785) rfl rfl rfl x_has_ds.2 ⟨Nat.le_trans (Nat.le_of_ble_eq_true rfl) hRf, Nat.le_trans (Nat.le_of_ble_eq_true rfl) hRl⟩) hK hY hB WX_nil hcs rfl hl.1 rfl (Nat.le_of_ble_eq_true rfl) dX0_laySets_69 ?_
      obtain ⟨v3, hm3, hf⟩ := ob1_e hf
      refine w_cutL (nL := 5) (L := [(0, .ref (ad 199)), (1, .int u1), (2, .int u2), (4, .int x4)]) (pcj := 89) (st := [.int v3, .int x3]) (fun ls hl => ?_) (fun K3 => ?_)
      · refine lv_iadd hx hb dX0_laySets_89 ?_
        refine lv_istore_n (lv' := [(3, .int (x3 + v3)), (0, .ref (ad 199)), (1, .int u1), (2, .int u2), (4, .int x4)]) hx hb dX0_laySets_90 rfl hl (by decide) rfl (fun ls hl => ?_)
        refine lv_iinc (v := x4 + 1) (lv' := [(4, .int (x4 + 1)), (3, .int (x3 + v3)), (0, .ref (ad 199)), (1, .int u1), (2, .int u2)]) hx hb dX0_laySets_91 hl (k := 4) rfl (by rfl) (by decide) rfl (fun ls hl => ?_)
        refine lv_goto (tgt := 53) hx hb dX0_laySets_94 (by decide) ?_
        exact ih (x3 + v3) (x4 + 1) ls hf (lv_sub hl [2, 3, 4, 1, 0] rfl)
      · refine lv_if_eq (tgt := 88) hx hb dX0_laySets_72 (by decide) (fun c4 => ?_) (fun c4 => ?_)
        · rw [if_pos c4] at hm3
          refine lv_iconst (v := 0) hx hb dX0_laySets_88 (by decide) ?_
          obtain rfl := so1 hm3
          exact K3 ls (lv_sub hl [0, 1, 2, 4] rfl)
        · rw [if_neg c4] at hm3
          refine lv_aload_n hx hb dX0_laySets_75 rfl (lv_at hl 0 rfl) ?_
          refine x_get (v := .ref (ad 299)) hx hb hts hown hK hW xO199 in_X0 rfl 4 (by decide) q228 rfl rfl dX0_laySets_76 ?_
          refine x_get (v := .ref (ad 207)) hx hb hts hown hK hW xO299 in_X1 rfl 7 (by decide) q174 rfl rfl dX0_laySets_79 ?_
          refine lv_iload hx hb dX0_laySets_82 (lv_at hl 4 rfl) ?_
          obtain ⟨v5, hv5, hm3⟩ := ob1_e hm3
          refine x_iald hx hb hK hW xA207 hv5 dX0_laySets_84 ?_
          refine lv_goto (tgt := 89) hx hb dX0_laySets_85 (by decide) ?_
          obtain rfl := so1 hm3
          exact K3 ls (lv_sub hl [0, 1, 2, 4] rfl)
def x_laySets_L137 (I : Nat → Int32) (R : Nat → Option Nat) (G : Nat → Nat → Option Nat) (pl n : Nat) (ks : Nat → Nat) (u1 : Int32) (u2 : Int32) : Nat → (Nat → Nat → Int32) → Int32 → Option ((Nat → Nat → Int32) × Int32)
  | 0, _, _ => none
  | k + 1, A, x4 =>
    if (I 204) ≤ x4 then (some (A, x4)) else (ob1 (ldO (A 115) 8 x4) fun (v2 : Int32) =>
      ob1 (x_has u2 x4) fun (v3 : Int32) =>
      ob1 (if v3 = 0 then ((some 0 : Option (Int32))) else ((some 1 : Option (Int32)))) fun (v4 : Int32) =>
      ob1 (stO (A 115) 8 x4 (v2 + v4)) fun (f6 : Nat → Int32) =>
      x_laySets_L137 I R G pl n ks u1 u2 k (va_up A 115 f6) (x4 + 1))
set_option maxRecDepth 100000 in
set_option maxHeartbeats 4000000 in
theorem x_laySets_L137_w {p : Program} {l : Launch} {e : Env} {R0 : Room} {s : State} {m : MethodId} {args : Array Value} {below : List Frame} {meth : Method} {c : Code} {cells slots : Nat} {Q : State → Prop} {D : dd_} {s0 : State} {ad : Nat → Nat} {X : va_W} {base : Nat} (hx : p.tables.exec = Jvm.exec) (hb : c.code = cX0_laySets) (hml : c.maxLocals = 5) (hown : s.vm.findClass RX0 = some m.cls) (hts : ∀ w ∈ lw_all, w.before args s = true) (hK : Kx D s) (hY : s0.WarmedH s.vm) (h0 : ∀ w ∈ lw_tbl, va_Nw w s0) (hRf : 2 ≤ R0.frames) (hRl : 53 ≤ R0.locals) (hcs : cells ≤ R0.cells ∧ slots ≤ R0.slots) (hB0 : base ≤ s.heap.size) (hAP : AP xS ad X base) (I : Nat → Int32) (R : Nat → Option Nat) (G : Nat → Nat → Option Nat) (pl n : Nat) (ks : Nat → Nat) (u1 : Int32) (u2 : Int32) (hR : RegX D X pl n ks) (A9 : (Nat → Nat → Int32)) (y4 : Int32) (KX : ∀ (H : Heap) (locs : List Loc) (ls : Array Slot), WX D xS ad I A9 R G X H → va_S (upB base) s.heap H locs → lv_has ls 5 [(0, .ref (ad 199)), (1, .int u1), (2, .int u2)] → W p l e R0 s m args below meth c H locs cells slots Q (F0 m 179 ls [])) : ∀ (k : Nat) (A : (Nat → Nat → Int32)) (x4 : Int32) (H : Heap) (locs : List Loc) (ls : Array Slot), x_laySets_L137 I R G pl n ks u1 u2 k A x4 = some (A9, y4) → WX D xS ad I A R G X H → va_S (upB base) s.heap H locs → lv_has ls 5 [(0, .ref (ad 199)), (1, .int u1), (2, .int u2), (4, .int x4)] → W p l e R0 s m args below meth c H locs cells slots Q (F0 m 137 ls []) := by
  intro k
  induction k with
  | zero =>
    intro A x4 H locs ls hf
    exact nomatch (show (none : Option ((Nat → Nat → Int32) × Int32)) = some (A9, y4) from hf)
  | succ k ih =>
    intro A x4 H locs ls hf hW hS hl
    have hf : (if (I 204) ≤ x4 then (some (A, x4)) else (ob1 (ldO (A 115) 8 x4) fun (v2 : Int32) =>
          ob1 (x_has u2 x4) fun (v3 : Int32) =>
          ob1 (if v3 = 0 then ((some 0 : Option (Int32))) else ((some 1 : Option (Int32)))) fun (v4 : Int32) =>
          ob1 (stO (A 115) 8 x4 (v2 + v4)) fun (f6 : Nat → Int32) =>
          x_laySets_L137 I R G pl n ks u1 u2 k (va_up A 115 f6) (x4 + 1))) = some (A9, y4) := hf
    refine lv_iload hx hb dX0_laySets_137 (lv_at hl 3 rfl) ?_
    refine lv_aload_n hx hb dX0_laySets_139 rfl (lv_at hl 0 rfl) ?_
    refine x_get (v := .ref (ad 299)) hx hb hts hown hK hW xO199 in_X0 rfl 4 (by decide) q228 rfl rfl dX0_laySets_140 ?_
    refine x_get (v := .int (I 204)) hx hb hts hown hK hW xO299 in_X1 rfl 4 (by decide) q168 rfl rfl dX0_laySets_143 ?_
    refine lv_icmp_ge (tgt := 179) hx hb dX0_laySets_146 (by decide) (fun c1 => ?_) (fun c1 => ?_)
    · rw [if_pos c1] at hf
      obtain ⟨rfl, rfl⟩ := so2 hf
      exact KX _ _ ls hW hS (lv_sub hl [0, 1, 2] rfl)
    · rw [if_neg c1] at hf
      refine lv_aload_n hx hb dX0_laySets_149 rfl (lv_at hl 0 rfl) ?_
      refine x_get (v := .ref (ad 115)) hx hb hts hown hK hW xO199 in_X0 rfl 15 (by decide) q239 rfl rfl dX0_laySets_150 ?_
      refine lv_iload hx hb dX0_laySets_153 (lv_at hl 3 rfl) ?_
      refine lv_dup2_11 hx hb dX0_laySets_155 rfl rfl ?_
      obtain ⟨v2, hv2, hf⟩ := ob1_e hf
      refine x_iald hx hb hK hW xA115 hv2 dX0_laySets_156 ?_
      refine lv_iload_n hx hb dX0_laySets_157 rfl (lv_at hl 2 rfl) ?_
      refine lv_iload hx hb dX0_laySets_158 (lv_at hl 3 rfl) ?_
      obtain ⟨v3, h3, hf⟩ := ob1_e hf
      refine x_sR (ov := some (.int v3)) (D := D) (s0 := s0) (Sc := nS) (adc := ad) (Ic := (fun _ => 0)) (Ac := (fun _ _ => 0)) (Rc := nR) (Gc := nG) (Xc := []) (base := base) (As := [.int u2, .int x4]) (rest := [.int v2, .int x4, .ref (ad 115)]) ⟨hx, hb, hml, hown, hts⟩ (x_has_met l D s0 h0 ad [] base u2 x4 v3 h3) (va_cwS 2 hts (lw_S q853 q784 q76 q785) rfl rfl rfl x_has_ds.2 ⟨Nat.le_trans (Nat.le_of_ble_eq_true rfl) hRf, Nat.le_trans (Nat.le_of_ble_eq_true rfl) hRl⟩) hK hY (Nat.le_trans hB0 hS.1) WX_nil hcs rfl hl.1 rfl (Nat.le_of_ble_eq_true rfl) dX0_laySets_160 ?_
      obtain ⟨v4, hm4, hf⟩ := ob1_e hf
      refine w_cutL (nL := 5) (L := [(0, .ref (ad 199)), (1, .int u1), (2, .int u2), (4, .int x4)]) (pcj := 171) (st := [.int v4, .int v2, .int x4, .ref (ad 115)]) (fun ls hl => ?_) (fun K4 => ?_)
      · refine lv_iadd hx hb dX0_laySets_171 ?_
        obtain ⟨f6, hf6, hf⟩ := ob1_e hf
        refine x_iast hx hb hK xwf hAP hW hS xA115 hf6 dX0_laySets_172 (fun H locs hW hS => ?_)
        refine lv_iinc (v := x4 + 1) (lv' := [(4, .int (x4 + 1)), (0, .ref (ad 199)), (1, .int u1), (2, .int u2)]) hx hb dX0_laySets_173 hl (k := 3) rfl (by rfl) (by decide) rfl (fun ls hl => ?_)
        refine lv_goto (tgt := 137) hx hb dX0_laySets_176 (by decide) ?_
        exact ih (va_up A 115 f6) (x4 + 1) _ _ ls hf hW hS (lv_sub hl [1, 2, 3, 0] rfl)
      · refine lv_if_eq (tgt := 170) hx hb dX0_laySets_163 (by decide) (fun c5 => ?_) (fun c5 => ?_)
        · rw [if_pos c5] at hm4
          refine lv_iconst (v := 0) hx hb dX0_laySets_170 (by decide) ?_
          obtain rfl := so1 hm4
          exact K4 ls (lv_sub hl [0, 1, 2, 3] rfl)
        · rw [if_neg c5] at hm4
          refine lv_iconst (v := 1) hx hb dX0_laySets_166 (by decide) ?_
          refine lv_goto (tgt := 171) hx hb dX0_laySets_167 (by decide) ?_
          obtain rfl := so1 hm4
          exact K4 ls (lv_sub hl [0, 1, 2, 3] rfl)
def x_laySets_L35 (R : Nat → Option Nat) (G : Nat → Nat → Option Nat) (pl n : Nat) (ks : Nat → Nat) (u1 : Int32) : Nat → (Nat → Int32) → (Nat → Nat → Int32) → Int32 → Option ((Nat → Int32) × (Nat → Nat → Int32) × Int32)
  | 0, _, _, _ => none
  | k + 1, I, A, x2 =>
    if ((1 : Int32) <<< ((I 204) &&& 31)) ≤ x2 then (some (I, A, x2)) else (ob2 (x_laySets_L53 I A R G pl n ks u1 x2 NF 0 0) fun (v2 : Int32) (v3 : Int32) =>
      ob2 (if v2 = u1 then (ob1 (if (I 114) = 0 then ((some x2 : Option (Int32))) else ((some (I 116) : Option (Int32)))) fun (v7 : Int32) =>
          ob2 (x_laySets_L137 (upd (upd I 116 v7) 114 (((upd I 116 v7) 114) + 1)) R G pl n ks u1 x2 NF A 0) fun (A9 : Nat → Nat → Int32) (v10 : Int32) =>
          (some (upd (upd I 116 v7) 114 (((upd I 116 v7) 114) + 1), A9) : Option ((Nat → Int32) × (Nat → Nat → Int32)))) else ((some (I, A) : Option ((Nat → Int32) × (Nat → Nat → Int32))))) fun (I4 : Nat → Int32) (A5 : Nat → Nat → Int32) =>
      x_laySets_L35 R G pl n ks u1 k I4 A5 (x2 + 1))
set_option maxRecDepth 100000 in
set_option maxHeartbeats 4000000 in
theorem x_laySets_L35_w {p : Program} {l : Launch} {e : Env} {R0 : Room} {s : State} {m : MethodId} {args : Array Value} {below : List Frame} {meth : Method} {c : Code} {cells slots : Nat} {Q : State → Prop} {D : dd_} {s0 : State} {ad : Nat → Nat} {X : va_W} {base : Nat} (hx : p.tables.exec = Jvm.exec) (hb : c.code = cX0_laySets) (hml : c.maxLocals = 5) (hown : s.vm.findClass RX0 = some m.cls) (hts : ∀ w ∈ lw_all, w.before args s = true) (hK : Kx D s) (hY : s0.WarmedH s.vm) (h0 : ∀ w ∈ lw_tbl, va_Nw w s0) (hRf : 2 ≤ R0.frames) (hRl : 53 ≤ R0.locals) (hcs : cells ≤ R0.cells ∧ slots ≤ R0.slots) (hB0 : base ≤ s.heap.size) (hAP : AP xS ad X base) (R : Nat → Option Nat) (G : Nat → Nat → Option Nat) (pl n : Nat) (ks : Nat → Nat) (u1 : Int32) (hR : RegX D X pl n ks) (I9 : (Nat → Int32)) (A9 : (Nat → Nat → Int32)) (y2 : Int32) (KX : ∀ (H : Heap) (locs : List Loc) (ls : Array Slot), WX D xS ad I9 A9 R G X H → va_S (upB base) s.heap H locs → lv_has ls 5 [] → W p l e R0 s m args below meth c H locs cells slots Q (F0 m 185 ls [])) : ∀ (k : Nat) (I : (Nat → Int32)) (A : (Nat → Nat → Int32)) (x2 : Int32) (H : Heap) (locs : List Loc) (ls : Array Slot), x_laySets_L35 R G pl n ks u1 k I A x2 = some (I9, A9, y2) → WX D xS ad I A R G X H → va_S (upB base) s.heap H locs → lv_has ls 5 [(0, .ref (ad 199)), (1, .int u1), (2, .int x2)] → W p l e R0 s m args below meth c H locs cells slots Q (F0 m 35 ls []) := by
  intro k
  induction k with
  | zero =>
    intro I A x2 H locs ls hf
    exact nomatch (show (none : Option ((Nat → Int32) × (Nat → Nat → Int32) × Int32)) = some (I9, A9, y2) from hf)
  | succ k ih =>
    intro I A x2 H locs ls hf hW hS hl
    have hf : (if ((1 : Int32) <<< ((I 204) &&& 31)) ≤ x2 then (some (I, A, x2)) else (ob2 (x_laySets_L53 I A R G pl n ks u1 x2 NF 0 0) fun (v2 : Int32) (v3 : Int32) =>
          ob2 (if v2 = u1 then (ob1 (if (I 114) = 0 then ((some x2 : Option (Int32))) else ((some (I 116) : Option (Int32)))) fun (v7 : Int32) =>
              ob2 (x_laySets_L137 (upd (upd I 116 v7) 114 (((upd I 116 v7) 114) + 1)) R G pl n ks u1 x2 NF A 0) fun (A9 : Nat → Nat → Int32) (v10 : Int32) =>
              (some (upd (upd I 116 v7) 114 (((upd I 116 v7) 114) + 1), A9) : Option ((Nat → Int32) × (Nat → Nat → Int32)))) else ((some (I, A) : Option ((Nat → Int32) × (Nat → Nat → Int32))))) fun (I4 : Nat → Int32) (A5 : Nat → Nat → Int32) =>
          x_laySets_L35 R G pl n ks u1 k I4 A5 (x2 + 1))) = some (I9, A9, y2) := hf
    refine lv_iload_n hx hb dX0_laySets_35 rfl (lv_at hl 2 rfl) ?_
    refine lv_iconst (v := 1) hx hb dX0_laySets_36 (by decide) ?_
    refine lv_aload_n hx hb dX0_laySets_37 rfl (lv_at hl 0 rfl) ?_
    refine x_get (v := .ref (ad 299)) hx hb hts hown hK hW xO199 in_X0 rfl 4 (by decide) q228 rfl rfl dX0_laySets_38 ?_
    refine x_get (v := .int (I 204)) hx hb hts hown hK hW xO299 in_X1 rfl 4 (by decide) q168 rfl rfl dX0_laySets_41 ?_
    refine lv_ishl hx hb dX0_laySets_44 ?_
    refine lv_icmp_ge (tgt := 185) hx hb dX0_laySets_45 (by decide) (fun c1 => ?_) (fun c1 => ?_)
    · rw [if_pos c1] at hf
      obtain ⟨rfl, rfl, rfl⟩ := so3 hf
      exact KX _ _ ls hW hS (lv_sub hl [] rfl)
    · rw [if_neg c1] at hf
      refine lv_iconst (v := 0) hx hb dX0_laySets_48 (by decide) ?_
      refine lv_istore_n (lv' := [(3, .int 0), (0, .ref (ad 199)), (1, .int u1), (2, .int x2)]) hx hb dX0_laySets_49 rfl hl (by decide) rfl (fun ls hl => ?_)
      refine lv_iconst (v := 0) hx hb dX0_laySets_50 (by decide) ?_
      refine lv_istore (lv' := [(4, .int 0), (3, .int 0), (0, .ref (ad 199)), (1, .int u1), (2, .int x2)]) hx hb dX0_laySets_51 hl (by decide) rfl (fun ls hl => ?_)
      obtain ⟨v2, v3, hq3, hf⟩ := ob2_e hf
      refine x_laySets_L53_w hx hb hml hown hts hK hY h0 hRf hRl hcs (Nat.le_trans hB0 hS.1) I A R G pl n ks u1 x2 hR hW v2 v3 (fun ls hl => ?_) NF 0 0 ls hq3 (lv_sub hl [2, 3, 4, 1, 0] rfl)
      refine lv_iload_n hx hb dX0_laySets_97 rfl (lv_at hl 3 rfl) ?_
      refine lv_iload_n hx hb dX0_laySets_98 rfl (lv_at hl 1 rfl) ?_
      obtain ⟨I4, A5, hm5, hf⟩ := ob2_e hf
      refine w_cutH (A0 := upB base) (H0 := s.heap) (X := WX D xS ad I4 A5 R G X) (nL := 5) (L := [(0, .ref (ad 199)), (1, .int u1), (2, .int x2)]) (pcj := 179) (st := []) (fun H locs ls hW hS hl => ?_) (fun K5 => ?_)
      · refine lv_iinc (v := x2 + 1) (lv' := [(2, .int (x2 + 1)), (0, .ref (ad 199)), (1, .int u1)]) hx hb dX0_laySets_179 hl (k := 2) rfl (by rfl) (by decide) rfl (fun ls hl => ?_)
        refine lv_goto (tgt := 35) hx hb dX0_laySets_182 (by decide) ?_
        exact ih I4 A5 (x2 + 1) _ _ ls hf hW hS (lv_sub hl [1, 2, 0] rfl)
      · refine lv_icmp_eq (tgt := 105) hx hb dX0_laySets_99 (by decide) (fun c6 => ?_) (fun c6 => ?_)
        · rw [if_pos c6] at hm5
          refine lv_aload_n hx hb dX0_laySets_105 rfl (lv_at hl 0 rfl) ?_
          refine lv_aload_n hx hb dX0_laySets_106 rfl (lv_at hl 0 rfl) ?_
          refine x_get (v := .int (I 114)) hx hb hts hown hK hW xO199 in_X0 rfl 14 (by decide) q238 rfl rfl dX0_laySets_107 ?_
          obtain ⟨v7, hm7, hm5⟩ := ob1_e hm5
          refine w_cutL (nL := 5) (L := [(0, .ref (ad 199)), (1, .int u1), (2, .int x2)]) (pcj := 121) (st := [.int v7, .ref (ad 199)]) (fun ls hl => ?_) (fun K7 => ?_)
          · refine x_putI hx hb hts hown hK xwf hAP hW hS xO199 in_X0 tyX0 tyX0_ok nmX0 rfl 16 116 (by decide) rfl q240 rfl rfl (by decide +kernel) dX0_laySets_121 (fun H locs hW hS => ?_)
            refine lv_aload_n hx hb dX0_laySets_124 rfl (lv_at hl 0 rfl) ?_
            refine lv_dup hx hb dX0_laySets_125 rfl ?_
            refine x_get (v := .int ((upd I 116 v7) 114)) hx hb hts hown hK hW xO199 in_X0 rfl 14 (by decide) q238 rfl rfl dX0_laySets_126 ?_
            refine lv_iconst (v := 1) hx hb dX0_laySets_129 (by decide) ?_
            refine lv_iadd hx hb dX0_laySets_130 ?_
            refine x_putI hx hb hts hown hK xwf hAP hW hS xO199 in_X0 tyX0 tyX0_ok nmX0 rfl 14 114 (by decide) rfl q238 rfl rfl (by decide +kernel) dX0_laySets_131 (fun H locs hW hS => ?_)
            refine lv_iconst (v := 0) hx hb dX0_laySets_134 (by decide) ?_
            refine lv_istore (lv' := [(4, .int 0), (0, .ref (ad 199)), (1, .int u1), (2, .int x2)]) hx hb dX0_laySets_135 hl (by decide) rfl (fun ls hl => ?_)
            obtain ⟨A9, v10, hq10, hm5⟩ := ob2_e hm5
            refine x_laySets_L137_w hx hb hml hown hts hK hY h0 hRf hRl hcs hB0 hAP (upd (upd I 116 v7) 114 (((upd I 116 v7) 114) + 1)) R G pl n ks u1 x2 hR A9 v10 (fun H locs ls hW hS hl => ?_) NF A 0 _ _ ls hq10 hW hS (lv_sub hl [1, 2, 3, 0] rfl)
            obtain ⟨rfl, rfl⟩ := so2 hm5
            exact K5 _ _ ls hW hS (lv_sub hl [0, 1, 2] rfl)
          · refine lv_if_ne (tgt := 117) hx hb dX0_laySets_110 (by decide) (fun c8 => ?_) (fun c8 => ?_)
            · rw [if_neg c8] at hm7
              refine lv_aload_n hx hb dX0_laySets_117 rfl (lv_at hl 0 rfl) ?_
              refine x_get (v := .int (I 116)) hx hb hts hown hK hW xO199 in_X0 rfl 16 (by decide) q240 rfl rfl dX0_laySets_118 ?_
              obtain rfl := so1 hm7
              exact K7 ls (lv_sub hl [0, 1, 2] rfl)
            · rw [if_pos c8] at hm7
              refine lv_iload_n hx hb dX0_laySets_113 rfl (lv_at hl 2 rfl) ?_
              refine lv_goto (tgt := 121) hx hb dX0_laySets_114 (by decide) ?_
              obtain rfl := so1 hm7
              exact K7 ls (lv_sub hl [0, 1, 2] rfl)
        · rw [if_neg c6] at hm5
          refine lv_goto (tgt := 179) hx hb dX0_laySets_102 (by decide) ?_
          obtain ⟨rfl, rfl⟩ := so2 hm5
          exact K5 _ _ ls hW hS (lv_sub hl [0, 1, 2] rfl)
def x_laySets (I : Nat → Int32) (A : Nat → Nat → Int32) (R : Nat → Option Nat) (G : Nat → Nat → Option Nat) (pl n : Nat) (ks : Nat → Nat) (a0 : Int32) : Option ((Nat → Int32) × (Nat → Nat → Int32)) :=
  ob2 (x_laySets_L14 (upd (upd I 114 0) 116 (-1000000)) R G pl n ks a0 NF A 0) fun (A1 : Nat → Nat → Int32) (v2 : Int32) =>
  ob3 (x_laySets_L35 R G pl n ks a0 NF (upd (upd I 114 0) 116 (-1000000)) A1 0) fun (I3 : Nat → Int32) (A4 : Nat → Nat → Int32) (v5 : Int32) =>
  some (I3, A4)
set_option maxRecDepth 100000 in
set_option maxHeartbeats 4000000 in
theorem x_laySets_met (l : Launch) (D : dd_) (s0 : State) (h0 : ∀ w ∈ lw_tbl, va_Nw w s0) (ad : Nat → Nat) (X : va_W) (base : Nat) (hAP : AP xS ad X base) (I : Nat → Int32) (A : Nat → Nat → Int32) (R : Nat → Option Nat) (G : Nat → Nat → Option Nat) (pl n : Nat) (ks : Nat → Nat) (hR : RegX D X pl n ks) (a0 : Int32) (I1 : (Nat → Int32)) (A1 : (Nat → Nat → Int32)) (hf : x_laySets I A R G pl n ks a0 = some (I1, A1)) : Met l yX0_laySets (ws_ yX0_laySets cX0_laySets 5 none) ({ frames := 2, cells := 0, slots := 0, locals := 53 }) (PcX D s0 xS ad I A R G X base [.ref (ad 199), .int a0]) (QcX D xS ad I1 A1 R G X base (none)) 0 0 (upB base) := by
  refine Met.ofW (cc := cX0_laySets) (maxL := 5) (ret := none) (by decide) rfl ?_
  intro p e s m args below meth c s₁ B hml hv
  obtain ⟨rfl, hK, hY, hB0, hW⟩ := hv
  have hx := B.exec
  have hb := B.bytes
  have hr := B.returns
  have hts := atoms_spec (ws := (ws_ yX0_laySets cX0_laySets 5 none)) B.pre
  have hts : ∀ w ∈ lw_all, w.before _ s = true := fun w h => hts w (List.mem_cons_of_mem _ h)
  have hown : s.vm.findClass RX0 = some m.cls := findClass_of_methodNamed B.named
  have hlocks := B.notSynchronized
  have hRf : 2 ≤ (headSpec (ws_ yX0_laySets cX0_laySets 5 none) ({ frames := 2, cells := 0, slots := 0, locals := 53 })).room.frames := Nat.le_refl _
  have hRl : 53 ≤ (headSpec (ws_ yX0_laySets cX0_laySets 5 none) ({ frames := 2, cells := 0, slots := 0, locals := 53 })).room.locals := Nat.le_refl _
  have hcs : 0 ≤ (headSpec (ws_ yX0_laySets cX0_laySets 5 none) ({ frames := 2, cells := 0, slots := 0, locals := 53 })).room.cells ∧ 0 ≤ (headSpec (ws_ yX0_laySets cX0_laySets 5 none) ({ frames := 2, cells := 0, slots := 0, locals := 53 })).room.slots := ⟨Nat.zero_le _, Nat.zero_le _⟩
  have hS : va_S (upB base) s.heap s.heap [] := va_S.rf
  have hl := lv_entry ([.ref (ad 199), .int a0]) (n := 5) (Nat.le_of_ble_eq_true rfl)
  rw [lg_entry_eq]
  generalize (lg_sl ([.ref (ad 199), .int a0]) ++ List.replicate (5 - (lg_sl ([.ref (ad 199), .int a0])).length) Slot.unset).toArray = ls at hl ⊢
  have hl : lv_has ls 5 [(0, .ref (ad 199)), (1, .int a0)] := hl
  have hf : (ob2 (x_laySets_L14 (upd (upd I 114 0) 116 (-1000000)) R G pl n ks a0 NF A 0) fun (A1 : Nat → Nat → Int32) (v2 : Int32) =>
    ob3 (x_laySets_L35 R G pl n ks a0 NF (upd (upd I 114 0) 116 (-1000000)) A1 0) fun (I3 : Nat → Int32) (A4 : Nat → Nat → Int32) (v5 : Int32) =>
    some (I3, A4)) = some (I1, A1) := hf
  refine lv_aload_n hx hb dX0_laySets_0 rfl (lv_at hl 0 rfl) ?_
  refine lv_iconst (v := 0) hx hb dX0_laySets_1 (by decide) ?_
  refine x_putI hx hb hts hown hK xwf hAP hW hS xO199 in_X0 tyX0 tyX0_ok nmX0 rfl 14 114 (by decide) rfl q238 rfl rfl (by decide +kernel) dX0_laySets_2 (fun H locs hW hS => ?_)
  refine lv_aload_n hx hb dX0_laySets_5 rfl (lv_at hl 0 rfl) ?_
  refine lv_ldcw (v := (-1000000)) hx hb hown (hts _ q941) dX0_laySets_6 ?_
  refine x_putI hx hb hts hown hK xwf hAP hW hS xO199 in_X0 tyX0 tyX0_ok nmX0 rfl 16 116 (by decide) rfl q240 rfl rfl (by decide +kernel) dX0_laySets_9 (fun H locs hW hS => ?_)
  refine lv_iconst (v := 0) hx hb dX0_laySets_12 (by decide) ?_
  refine lv_istore_n (lv' := [(2, .int 0), (0, .ref (ad 199)), (1, .int a0)]) hx hb dX0_laySets_13 rfl hl (by decide) rfl (fun ls hl => ?_)
  obtain ⟨A1, v2, hq2, hf⟩ := ob2_e hf
  refine x_laySets_L14_w hx hb hml hown hts hK hY h0 hRf hRl hcs hB0 hAP (upd (upd I 114 0) 116 (-1000000)) R G pl n ks a0 hR A1 v2 (fun H locs ls hW hS hl => ?_) NF A 0 _ _ ls hq2 hW hS (lv_sub hl [1, 2, 0] rfl)
  refine lv_iconst (v := 0) hx hb dX0_laySets_33 (by decide) ?_
  refine lv_istore_n (lv' := [(2, .int 0), (0, .ref (ad 199)), (1, .int a0)]) hx hb dX0_laySets_34 rfl hl (by decide) rfl (fun ls hl => ?_)
  obtain ⟨I3, A4, v5, hq5, hf⟩ := ob3_e hf
  refine x_laySets_L35_w hx hb hml hown hts hK hY h0 hRf hRl hcs hB0 hAP R G pl n ks a0 hR I3 A4 v5 (fun H locs ls hW hS hl => ?_) NF (upd (upd I 114 0) 116 (-1000000)) A1 0 _ _ ls hq5 hW hS (lv_sub hl [1, 2, 0] rfl)
  obtain ⟨rfl, rfl⟩ := so2 hf
  exact W.vret hx hb hr (fun t ht _ => ⟨rfl, by rw [ht]; exact hW, hS.F ht⟩) hS.2.2 dX0_laySets_185
theorem x_laySets_ds : yX0_laySets.cls = RX0 ∧ yX0_laySets.cls ≠ "java/lang/invoke/MethodHandle" ∧ yX0_laySets.cls ≠ "java/lang/invoke/VarHandle" ∧ (parseMethodDescriptor yX0_laySets.desc).map (fun d => d.parameters.length) = some 1 := by decide +kernel
def x_nextOf_L4 (I : Nat → Int32) (A : Nat → Nat → Int32) (R : Nat → Option Nat) (G : Nat → Nat → Option Nat) (pl n : Nat) (ks : Nat → Nat) : Nat → Int32 → Int32 → Option (Int32 × Int32)
  | 0, _, _ => none
  | k + 1, x1, x2 =>
    if (I 204) ≤ x2 then (some (x1, x2)) else (ob1 (ldO (A 115) 8 x2) fun (v2 : Int32) =>
      ob1 (ldO (A 115) 8 x1) fun (v3 : Int32) =>
      ob1 (if (abI ((2 * v3) - (I 114))) ≤ (abI ((2 * v2) - (I 114))) then ((some x1 : Option (Int32))) else ((some x2 : Option (Int32)))) fun (v4 : Int32) =>
      x_nextOf_L4 I A R G pl n ks k v4 (x2 + 1))
set_option maxRecDepth 100000 in
set_option maxHeartbeats 4000000 in
theorem x_nextOf_L4_w {p : Program} {l : Launch} {e : Env} {R0 : Room} {s : State} {m : MethodId} {args : Array Value} {below : List Frame} {meth : Method} {c : Code} {cells slots : Nat} {Q : State → Prop} {D : dd_} {s0 : State} {ad : Nat → Nat} {X : va_W} {base : Nat} (hx : p.tables.exec = Jvm.exec) (hb : c.code = cX0_nextOf) (hml : c.maxLocals = 3) (hown : s.vm.findClass RX0 = some m.cls) (hts : ∀ w ∈ lw_all, w.before args s = true) (hK : Kx D s) (hY : s0.WarmedH s.vm) (h0 : ∀ w ∈ lw_tbl, va_Nw w s0) (hRf : 1 ≤ R0.frames) (hRl : 32 ≤ R0.locals) (hcs : cells ≤ R0.cells ∧ slots ≤ R0.slots) {H : Heap} {locs : List Loc} (hB : base ≤ H.size) (I : Nat → Int32) (A : Nat → Nat → Int32) (R : Nat → Option Nat) (G : Nat → Nat → Option Nat) (pl n : Nat) (ks : Nat → Nat) (hR : RegX D X pl n ks) (hW : WX D xS ad I A R G X H) (y1 : Int32) (y2 : Int32) (KX : ∀ (ls : Array Slot), lv_has ls 3 [(0, .ref (ad 199)), (1, .int y1)] → W p l e R0 s m args below meth c H locs cells slots Q (F0 m 62 ls [])) : ∀ (k : Nat) (x1 : Int32) (x2 : Int32) (ls : Array Slot), x_nextOf_L4 I A R G pl n ks k x1 x2 = some (y1, y2) → lv_has ls 3 [(0, .ref (ad 199)), (1, .int x1), (2, .int x2)] → W p l e R0 s m args below meth c H locs cells slots Q (F0 m 4 ls []) := by
  intro k
  induction k with
  | zero =>
    intro x1 x2 ls hf
    exact nomatch (show (none : Option (Int32 × Int32)) = some (y1, y2) from hf)
  | succ k ih =>
    intro x1 x2 ls hf hl
    have hf : (if (I 204) ≤ x2 then (some (x1, x2)) else (ob1 (ldO (A 115) 8 x2) fun (v2 : Int32) =>
          ob1 (ldO (A 115) 8 x1) fun (v3 : Int32) =>
          ob1 (if (abI ((2 * v3) - (I 114))) ≤ (abI ((2 * v2) - (I 114))) then ((some x1 : Option (Int32))) else ((some x2 : Option (Int32)))) fun (v4 : Int32) =>
          x_nextOf_L4 I A R G pl n ks k v4 (x2 + 1))) = some (y1, y2) := hf
    refine lv_iload_n hx hb dX0_nextOf_4 rfl (lv_at hl 2 rfl) ?_
    refine lv_aload_n hx hb dX0_nextOf_5 rfl (lv_at hl 0 rfl) ?_
    refine x_get (v := .ref (ad 299)) hx hb hts hown hK hW xO199 in_X0 rfl 4 (by decide) q228 rfl rfl dX0_nextOf_6 ?_
    refine x_get (v := .int (I 204)) hx hb hts hown hK hW xO299 in_X1 rfl 4 (by decide) q168 rfl rfl dX0_nextOf_9 ?_
    refine lv_icmp_ge (tgt := 62) hx hb dX0_nextOf_12 (by decide) (fun c1 => ?_) (fun c1 => ?_)
    · rw [if_pos c1] at hf
      obtain ⟨rfl, rfl⟩ := so2 hf
      exact KX ls (lv_sub hl [0, 1] rfl)
    · rw [if_neg c1] at hf
      refine lv_iconst (v := 2) hx hb dX0_nextOf_15 (by decide) ?_
      refine lv_aload_n hx hb dX0_nextOf_16 rfl (lv_at hl 0 rfl) ?_
      refine x_get (v := .ref (ad 115)) hx hb hts hown hK hW xO199 in_X0 rfl 15 (by decide) q239 rfl rfl dX0_nextOf_17 ?_
      refine lv_iload_n hx hb dX0_nextOf_20 rfl (lv_at hl 2 rfl) ?_
      obtain ⟨v2, hv2, hf⟩ := ob1_e hf
      refine x_iald hx hb hK hW xA115 hv2 dX0_nextOf_21 ?_
      refine lv_imul hx hb dX0_nextOf_22 ?_
      refine lv_aload_n hx hb dX0_nextOf_23 rfl (lv_at hl 0 rfl) ?_
      refine x_get (v := .int (I 114)) hx hb hts hown hK hW xO199 in_X0 rfl 14 (by decide) q238 rfl rfl dX0_nextOf_24 ?_
      refine lv_isub hx hb dX0_nextOf_27 ?_
      refine x_abs hx hb hml hl.1 hts hown q938 (Nat.le_trans (Nat.le_of_ble_eq_true rfl) hRf) (Nat.le_trans (Nat.le_of_ble_eq_true rfl) hRl) hcs dX0_nextOf_28 ?_
      refine lv_iconst (v := 2) hx hb dX0_nextOf_31 (by decide) ?_
      refine lv_aload_n hx hb dX0_nextOf_32 rfl (lv_at hl 0 rfl) ?_
      refine x_get (v := .ref (ad 115)) hx hb hts hown hK hW xO199 in_X0 rfl 15 (by decide) q239 rfl rfl dX0_nextOf_33 ?_
      refine lv_iload_n hx hb dX0_nextOf_36 rfl (lv_at hl 1 rfl) ?_
      obtain ⟨v3, hv3, hf⟩ := ob1_e hf
      refine x_iald hx hb hK hW xA115 hv3 dX0_nextOf_37 ?_
      refine lv_imul hx hb dX0_nextOf_38 ?_
      refine lv_aload_n hx hb dX0_nextOf_39 rfl (lv_at hl 0 rfl) ?_
      refine x_get (v := .int (I 114)) hx hb hts hown hK hW xO199 in_X0 rfl 14 (by decide) q238 rfl rfl dX0_nextOf_40 ?_
      refine lv_isub hx hb dX0_nextOf_43 ?_
      refine x_abs hx hb hml hl.1 hts hown q938 (Nat.le_trans (Nat.le_of_ble_eq_true rfl) hRf) (Nat.le_trans (Nat.le_of_ble_eq_true rfl) hRl) hcs dX0_nextOf_44 ?_
      obtain ⟨v4, hm4, hf⟩ := ob1_e hf
      refine w_cutL (nL := 3) (L := [(0, .ref (ad 199)), (2, .int x2)]) (pcj := 55) (st := [.int v4]) (fun ls hl => ?_) (fun K4 => ?_)
      · refine lv_istore_n (lv' := [(1, .int v4), (0, .ref (ad 199)), (2, .int x2)]) hx hb dX0_nextOf_55 rfl hl (by decide) rfl (fun ls hl => ?_)
        refine lv_iinc (v := x2 + 1) (lv' := [(2, .int (x2 + 1)), (1, .int v4), (0, .ref (ad 199))]) hx hb dX0_nextOf_56 hl (k := 2) rfl (by rfl) (by decide) rfl (fun ls hl => ?_)
        refine lv_goto (tgt := 4) hx hb dX0_nextOf_59 (by decide) ?_
        exact ih v4 (x2 + 1) ls hf (lv_sub hl [2, 1, 0] rfl)
      · refine lv_icmp_ge (tgt := 54) hx hb dX0_nextOf_47 (by decide) (fun c5 => ?_) (fun c5 => ?_)
        · rw [if_pos c5] at hm4
          refine lv_iload_n hx hb dX0_nextOf_54 rfl (lv_at hl 1 rfl) ?_
          obtain rfl := so1 hm4
          exact K4 ls (lv_sub hl [0, 2] rfl)
        · rw [if_neg c5] at hm4
          refine lv_iload_n hx hb dX0_nextOf_50 rfl (lv_at hl 2 rfl) ?_
          refine lv_goto (tgt := 55) hx hb dX0_nextOf_51 (by decide) ?_
          obtain rfl := so1 hm4
          exact K4 ls (lv_sub hl [0, 2] rfl)
def x_nextOf (I : Nat → Int32) (A : Nat → Nat → Int32) (R : Nat → Option Nat) (G : Nat → Nat → Option Nat) (pl n : Nat) (ks : Nat → Nat) : Option (Int32) :=
  ob2 (x_nextOf_L4 I A R G pl n ks NF 0 1) fun (v1 : Int32) (v2 : Int32) =>
  ob1 (if (I 114) = 0 then ((some (-1000000) : Option (Int32))) else (if (I 204) = 0 then ((some (-1000000) : Option (Int32))) else ((some v1 : Option (Int32))))) fun (v3 : Int32) =>
  some v3
set_option maxRecDepth 100000 in
set_option maxHeartbeats 4000000 in
theorem x_nextOf_met (l : Launch) (D : dd_) (s0 : State) (h0 : ∀ w ∈ lw_tbl, va_Nw w s0) (ad : Nat → Nat) (X : va_W) (base : Nat) (I : Nat → Int32) (A : Nat → Nat → Int32) (R : Nat → Option Nat) (G : Nat → Nat → Option Nat) (pl n : Nat) (ks : Nat → Nat) (hR : RegX D X pl n ks) (r : Int32) (hf : x_nextOf I A R G pl n ks  = some r) : Met l yX0_nextOf (ws_ yX0_nextOf cX0_nextOf 3 (some .int)) ({ frames := 1, cells := 0, slots := 0, locals := 32 }) (PcX D s0 xS ad I A R G X base [.ref (ad 199)]) (QcR (some (.int r))) 0 0 (fun _ => False) := by
  refine Met.ofW (cc := cX0_nextOf) (maxL := 3) (ret := (some .int)) (by decide) rfl ?_
  intro p e s m args below meth c s₁ B hml hv
  obtain ⟨rfl, hK, hY, hB, hW⟩ := hv
  have hx := B.exec
  have hb := B.bytes
  have hr := B.returns
  have hts := atoms_spec (ws := (ws_ yX0_nextOf cX0_nextOf 3 (some .int))) B.pre
  have hts : ∀ w ∈ lw_all, w.before _ s = true := fun w h => hts w (List.mem_cons_of_mem _ h)
  have hown : s.vm.findClass RX0 = some m.cls := findClass_of_methodNamed B.named
  have hlocks := B.notSynchronized
  have hRf : 1 ≤ (headSpec (ws_ yX0_nextOf cX0_nextOf 3 (some .int)) ({ frames := 1, cells := 0, slots := 0, locals := 32 })).room.frames := Nat.le_refl _
  have hRl : 32 ≤ (headSpec (ws_ yX0_nextOf cX0_nextOf 3 (some .int)) ({ frames := 1, cells := 0, slots := 0, locals := 32 })).room.locals := Nat.le_refl _
  have hcs : 0 ≤ (headSpec (ws_ yX0_nextOf cX0_nextOf 3 (some .int)) ({ frames := 1, cells := 0, slots := 0, locals := 32 })).room.cells ∧ 0 ≤ (headSpec (ws_ yX0_nextOf cX0_nextOf 3 (some .int)) ({ frames := 1, cells := 0, slots := 0, locals := 32 })).room.slots := ⟨Nat.zero_le _, Nat.zero_le _⟩
  have hl := lv_entry ([.ref (ad 199)]) (n := 3) (Nat.le_of_ble_eq_true rfl)
  rw [lg_entry_eq]
  generalize (lg_sl ([.ref (ad 199)]) ++ List.replicate (3 - (lg_sl ([.ref (ad 199)])).length) Slot.unset).toArray = ls at hl ⊢
  have hl : lv_has ls 3 [(0, .ref (ad 199))] := hl
  have hf : (ob2 (x_nextOf_L4 I A R G pl n ks NF 0 1) fun (v1 : Int32) (v2 : Int32) =>
    ob1 (if (I 114) = 0 then ((some (-1000000) : Option (Int32))) else (if (I 204) = 0 then ((some (-1000000) : Option (Int32))) else ((some v1 : Option (Int32))))) fun (v3 : Int32) =>
    some v3) = some r := hf
  refine lv_iconst (v := 0) hx hb dX0_nextOf_0 (by decide) ?_
  refine lv_istore_n (lv' := [(1, .int 0), (0, .ref (ad 199))]) hx hb dX0_nextOf_1 rfl hl (by decide) rfl (fun ls hl => ?_)
  refine lv_iconst (v := 1) hx hb dX0_nextOf_2 (by decide) ?_
  refine lv_istore_n (lv' := [(2, .int 1), (1, .int 0), (0, .ref (ad 199))]) hx hb dX0_nextOf_3 rfl hl (by decide) rfl (fun ls hl => ?_)
  obtain ⟨v1, v2, hq2, hf⟩ := ob2_e hf
  refine x_nextOf_L4_w hx hb hml hown hts hK hY h0 hRf hRl hcs hB I A R G pl n ks hR hW v1 v2 (fun ls hl => ?_) NF 0 1 ls hq2 (lv_sub hl [2, 1, 0] rfl)
  refine lv_aload_n hx hb dX0_nextOf_62 rfl (lv_at hl 0 rfl) ?_
  refine x_get (v := .int (I 114)) hx hb hts hown hK hW xO199 in_X0 rfl 14 (by decide) q238 rfl rfl dX0_nextOf_63 ?_
  obtain ⟨v3, hm3, hf⟩ := ob1_e hf
  refine w_cutL (nL := 3) (L := []) (pcj := 86) (st := [.int v3]) (fun ls hl => ?_) (fun K3 => ?_)
  · obtain rfl := so1 hf
    exact W.iret hx hb hr (fun t ht _ => ⟨rfl, ht⟩) (fun q hq => by cases hq) dX0_nextOf_86
  · refine lv_if_eq (tgt := 79) hx hb dX0_nextOf_66 (by decide) (fun c4 => ?_) (fun c4 => ?_)
    · rw [if_pos c4] at hm3
      refine lv_ldcw (v := (-1000000)) hx hb hown (hts _ q941) dX0_nextOf_79 ?_
      refine lv_goto (tgt := 86) hx hb dX0_nextOf_82 (by decide) ?_
      obtain rfl := so1 hm3
      exact K3 ls (lv_sub hl [] rfl)
    · rw [if_neg c4] at hm3
      refine lv_aload_n hx hb dX0_nextOf_69 rfl (lv_at hl 0 rfl) ?_
      refine x_get (v := .ref (ad 299)) hx hb hts hown hK hW xO199 in_X0 rfl 4 (by decide) q228 rfl rfl dX0_nextOf_70 ?_
      refine x_get (v := .int (I 204)) hx hb hts hown hK hW xO299 in_X1 rfl 4 (by decide) q168 rfl rfl dX0_nextOf_73 ?_
      refine lv_if_ne (tgt := 85) hx hb dX0_nextOf_76 (by decide) (fun c5 => ?_) (fun c5 => ?_)
      · rw [if_neg c5] at hm3
        refine lv_iload_n hx hb dX0_nextOf_85 rfl (lv_at hl 1 rfl) ?_
        obtain rfl := so1 hm3
        exact K3 ls (lv_sub hl [] rfl)
      · rw [if_pos c5] at hm3
        refine lv_ldcw (v := (-1000000)) hx hb hown (hts _ q941) dX0_nextOf_79 ?_
        refine lv_goto (tgt := 86) hx hb dX0_nextOf_82 (by decide) ?_
        obtain rfl := so1 hm3
        exact K3 ls (lv_sub hl [] rfl)
theorem x_nextOf_ds : yX0_nextOf.cls = RX0 ∧ yX0_nextOf.cls ≠ "java/lang/invoke/MethodHandle" ∧ yX0_nextOf.cls ≠ "java/lang/invoke/VarHandle" ∧ (parseMethodDescriptor yX0_nextOf.desc).map (fun d => d.parameters.length) = some 0 := by decide +kernel
def x_scale (I : Nat → Int32) (A : Nat → Nat → Int32) (R : Nat → Option Nat) (G : Nat → Nat → Option Nat) (pl n : Nat) (ks : Nat → Nat) (a0 : Int32) (a1 : Int32) : Option (Int32 × (Nat → Int32) × (Nat → Nat → Int32)) :=
  ob1 (x_isParish I A R G pl n ks) fun (v1 : Int32) =>
  if v1 = 0 then (some ((-1000002), I, A)) else (ob1 (x_isIn a0.toInt64 0 200) fun (v3 : Int32) =>
    if v3 = 0 then (some ((-1000001), I, A)) else (ob1 (x_isIn a1.toInt64 0 2) fun (v5 : Int32) =>
      if v5 = 0 then (some ((-1000001), I, A)) else (ob2 (x_laySets I A R G pl n ks a0) fun (I7 : Nat → Int32) (A8 : Nat → Nat → Int32) =>
        ob1 (if a1 = 0 then ((some (I7 114) : Option (Int32))) else (if a1 = 1 then ((some (I7 116) : Option (Int32))) else (ob1 (x_nextOf I7 A8 R G pl n ks) fun (v12 : Int32) =>
              (some v12 : Option (Int32))))) fun (v9 : Int32) =>
        some (v9, I7, A8))))
set_option maxRecDepth 100000 in
set_option maxHeartbeats 4000000 in
theorem x_scale_met (l : Launch) (D : dd_) (s0 : State) (h0 : ∀ w ∈ lw_tbl, va_Nw w s0) (ad : Nat → Nat) (X : va_W) (base : Nat) (hAP : AP xS ad X base) (I : Nat → Int32) (A : Nat → Nat → Int32) (R : Nat → Option Nat) (G : Nat → Nat → Option Nat) (pl n : Nat) (ks : Nat → Nat) (hR : RegX D X pl n ks) (a0 : Int32) (a1 : Int32) (r : Int32) (I1 : (Nat → Int32)) (A1 : (Nat → Nat → Int32)) (hf : x_scale I A R G pl n ks a0 a1 = some (r, I1, A1)) : Met l yX0_scale (ws_ yX0_scale cX0_scale 3 (some .int)) ({ frames := 4, cells := 0, slots := 0, locals := 92 }) (PcX D s0 xS ad I A R G X base [.ref (ad 199), .int a0, .int a1]) (QcX D xS ad I1 A1 R G X base (some (.int r))) 0 0 (upB base) := by
  refine Met.ofW (cc := cX0_scale) (maxL := 3) (ret := (some .int)) (by decide) rfl ?_
  intro p e s m args below meth c s₁ B hml hv
  obtain ⟨rfl, hK, hY, hB0, hW⟩ := hv
  have hx := B.exec
  have hb := B.bytes
  have hr := B.returns
  have hts := atoms_spec (ws := (ws_ yX0_scale cX0_scale 3 (some .int))) B.pre
  have hts : ∀ w ∈ lw_all, w.before _ s = true := fun w h => hts w (List.mem_cons_of_mem _ h)
  have hown : s.vm.findClass RX0 = some m.cls := findClass_of_methodNamed B.named
  have hlocks := B.notSynchronized
  have hRf : 4 ≤ (headSpec (ws_ yX0_scale cX0_scale 3 (some .int)) ({ frames := 4, cells := 0, slots := 0, locals := 92 })).room.frames := Nat.le_refl _
  have hRl : 92 ≤ (headSpec (ws_ yX0_scale cX0_scale 3 (some .int)) ({ frames := 4, cells := 0, slots := 0, locals := 92 })).room.locals := Nat.le_refl _
  have hcs : 0 ≤ (headSpec (ws_ yX0_scale cX0_scale 3 (some .int)) ({ frames := 4, cells := 0, slots := 0, locals := 92 })).room.cells ∧ 0 ≤ (headSpec (ws_ yX0_scale cX0_scale 3 (some .int)) ({ frames := 4, cells := 0, slots := 0, locals := 92 })).room.slots := ⟨Nat.zero_le _, Nat.zero_le _⟩
  have hS : va_S (upB base) s.heap s.heap [] := va_S.rf
  have hl := lv_entry ([.ref (ad 199), .int a0, .int a1]) (n := 3) (Nat.le_of_ble_eq_true rfl)
  rw [lg_entry_eq]
  generalize (lg_sl ([.ref (ad 199), .int a0, .int a1]) ++ List.replicate (3 - (lg_sl ([.ref (ad 199), .int a0, .int a1])).length) Slot.unset).toArray = ls at hl ⊢
  have hl : lv_has ls 3 [(0, .ref (ad 199)), (1, .int a0), (2, .int a1)] := hl
  have hf : (ob1 (x_isParish I A R G pl n ks) fun (v1 : Int32) =>
    if v1 = 0 then (some ((-1000002), I, A)) else (ob1 (x_isIn a0.toInt64 0 200) fun (v3 : Int32) =>
      if v3 = 0 then (some ((-1000001), I, A)) else (ob1 (x_isIn a1.toInt64 0 2) fun (v5 : Int32) =>
        if v5 = 0 then (some ((-1000001), I, A)) else (ob2 (x_laySets I A R G pl n ks a0) fun (I7 : Nat → Int32) (A8 : Nat → Nat → Int32) =>
          ob1 (if a1 = 0 then ((some (I7 114) : Option (Int32))) else (if a1 = 1 then ((some (I7 116) : Option (Int32))) else (ob1 (x_nextOf I7 A8 R G pl n ks) fun (v12 : Int32) =>
                (some v12 : Option (Int32))))) fun (v9 : Int32) =>
          some (v9, I7, A8))))) = some (r, I1, A1) := hf
  refine lv_aload_n hx hb dX0_scale_0 rfl (lv_at hl 0 rfl) ?_
  obtain ⟨v1, h1, hf⟩ := ob1_e hf
  refine x_vR (ov := some (.int v1)) (D := D) (s0 := s0) (Sc := xS) (adc := ad) (Ic := I) (Ac := A) (Rc := R) (Gc := G) (Xc := X) (base := base) (As := []) (rest := []) (b := ad 199) (C := RX0) ⟨hx, hb, hml, hown, hts⟩ (x_isParish_met l D s0 h0 ad X base I A R G pl n ks hR  v1 h1) (g_cwV 0 hts (lw_V q863 q865 qs21 q76 q866) rfl rfl x_isParish_ds ⟨Nat.le_trans (Nat.le_of_ble_eq_true rfl) hRf, Nat.le_trans (Nat.le_of_ble_eq_true rfl) hRl⟩) (x_recv hK hW xO199 rfl) hK hY (Nat.le_trans hB0 hS.1) hW hcs rfl hl.1 rfl (Nat.le_of_ble_eq_true rfl) dX0_scale_1 ?_
  refine lv_if_ne (tgt := 10) hx hb dX0_scale_4 (by decide) (fun c2 => ?_) (fun c2 => ?_)
  · rw [if_neg c2] at hf
    refine lv_iload_n hx hb dX0_scale_10 rfl (lv_at hl 1 rfl) ?_
    refine lv_i2l (v := a0.toInt64) hx hb dX0_scale_11 rfl ?_
    refine lv_lconst (v := 0) hx hb dX0_scale_12 (by decide) ?_
    refine lv_ldc2 (v := 200) hx hb hown (hts _ q1015) dX0_scale_13 ?_
    obtain ⟨v3, h3, hf⟩ := ob1_e hf
    refine x_sR (ov := some (.int v3)) (D := D) (s0 := s0) (Sc := nS) (adc := ad) (Ic := (fun _ => 0)) (Ac := (fun _ _ => 0)) (Rc := nR) (Gc := nG) (Xc := []) (base := base) (As := [.long a0.toInt64, .long 0, .long 200]) (rest := []) ⟨hx, hb, hml, hown, hts⟩ (x_isIn_met l D s0 h0 ad [] base a0.toInt64 0 200 v3 h3) (va_cwS 3 hts (lw_S q285 q286 q76 q287) rfl rfl rfl x_isIn_ds.2 ⟨Nat.le_trans (Nat.le_of_ble_eq_true rfl) hRf, Nat.le_trans (Nat.le_of_ble_eq_true rfl) hRl⟩) hK hY (Nat.le_trans hB0 hS.1) WX_nil hcs rfl hl.1 rfl (Nat.le_of_ble_eq_true rfl) dX0_scale_16 ?_
    refine lv_if_eq (tgt := 34) hx hb dX0_scale_19 (by decide) (fun c4 => ?_) (fun c4 => ?_)
    · rw [if_pos c4] at hf
      refine lv_ldc (v := (-1000001)) hx hb hown (hts _ q289) dX0_scale_34 ?_
      obtain ⟨rfl, rfl, rfl⟩ := so3 hf
      exact W.iret hx hb hr (fun t ht _ => ⟨rfl, by rw [ht]; exact hW, hS.F ht⟩) hS.2.2 dX0_scale_36
    · rw [if_neg c4] at hf
      refine lv_iload_n hx hb dX0_scale_22 rfl (lv_at hl 2 rfl) ?_
      refine lv_i2l (v := a1.toInt64) hx hb dX0_scale_23 rfl ?_
      refine lv_lconst (v := 0) hx hb dX0_scale_24 (by decide) ?_
      refine lv_ldc2 (v := 2) hx hb hown (hts _ q288) dX0_scale_25 ?_
      obtain ⟨v5, h5, hf⟩ := ob1_e hf
      refine x_sR (ov := some (.int v5)) (D := D) (s0 := s0) (Sc := nS) (adc := ad) (Ic := (fun _ => 0)) (Ac := (fun _ _ => 0)) (Rc := nR) (Gc := nG) (Xc := []) (base := base) (As := [.long a1.toInt64, .long 0, .long 2]) (rest := []) ⟨hx, hb, hml, hown, hts⟩ (x_isIn_met l D s0 h0 ad [] base a1.toInt64 0 2 v5 h5) (va_cwS 3 hts (lw_S q285 q286 q76 q287) rfl rfl rfl x_isIn_ds.2 ⟨Nat.le_trans (Nat.le_of_ble_eq_true rfl) hRf, Nat.le_trans (Nat.le_of_ble_eq_true rfl) hRl⟩) hK hY (Nat.le_trans hB0 hS.1) WX_nil hcs rfl hl.1 rfl (Nat.le_of_ble_eq_true rfl) dX0_scale_28 ?_
      refine lv_if_ne (tgt := 37) hx hb dX0_scale_31 (by decide) (fun c6 => ?_) (fun c6 => ?_)
      · rw [if_neg c6] at hf
        refine lv_aload_n hx hb dX0_scale_37 rfl (lv_at hl 0 rfl) ?_
        refine lv_iload_n hx hb dX0_scale_38 rfl (lv_at hl 1 rfl) ?_
        obtain ⟨I7, A8, h8, hf⟩ := ob2_e hf
        refine x_vW (ov := none) (D := D) (s0 := s0) (Sc := xS) (adc := ad) (Ic := I) (Ac := A) (Rc := R) (Gc := G) (Xc := X) (base := base) (As := [.int a0]) (rest := []) (Ic1 := I7) (Ac1 := A8) (Rc1 := R) (Gc1 := G) (Xc1 := X) (b := ad 199) (C := RX0) ⟨hx, hb, hml, hown, hts⟩ (x_laySets_met l D s0 h0 ad X base hAP I A R G pl n ks hR a0 I7 A8 h8) (g_cwV 1 hts (lw_V q1016 q1018 qs31 q76 q1019) rfl rfl x_laySets_ds ⟨Nat.le_trans (Nat.le_of_ble_eq_true rfl) hRf, Nat.le_trans (Nat.le_of_ble_eq_true rfl) hRl⟩) (x_recv hK hW xO199 rfl) hK hY (Nat.le_trans hB0 hS.1) hW hS hcs rfl hl.1 rfl (Nat.le_of_ble_eq_true rfl) dX0_scale_39 (fun H locs hW hS => ?_)
        refine lv_iload_n hx hb dX0_scale_42 rfl (lv_at hl 2 rfl) ?_
        obtain ⟨v9, hm9, hf⟩ := ob1_e hf
        refine w_cutL (nL := 3) (L := []) (pcj := 69) (st := [.int v9]) (fun ls hl => ?_) (fun K9 => ?_)
        · obtain ⟨rfl, rfl, rfl⟩ := so3 hf
          exact W.iret hx hb hr (fun t ht _ => ⟨rfl, by rw [ht]; exact hW, hS.F ht⟩) hS.2.2 dX0_scale_69
        · refine lv_if_ne (tgt := 53) hx hb dX0_scale_43 (by decide) (fun c10 => ?_) (fun c10 => ?_)
          · rw [if_neg c10] at hm9
            refine lv_iload_n hx hb dX0_scale_53 rfl (lv_at hl 2 rfl) ?_
            refine lv_iconst (v := 1) hx hb dX0_scale_54 (by decide) ?_
            refine lv_icmp_ne (tgt := 65) hx hb dX0_scale_55 (by decide) (fun c11 => ?_) (fun c11 => ?_)
            · rw [if_neg c11] at hm9
              refine lv_aload_n hx hb dX0_scale_65 rfl (lv_at hl 0 rfl) ?_
              obtain ⟨v12, h12, hm9⟩ := ob1_e hm9
              refine x_vR (ov := some (.int v12)) (D := D) (s0 := s0) (Sc := xS) (adc := ad) (Ic := I7) (Ac := A8) (Rc := R) (Gc := G) (Xc := X) (base := base) (As := []) (rest := []) (b := ad 199) (C := RX0) ⟨hx, hb, hml, hown, hts⟩ (x_nextOf_met l D s0 h0 ad X base I7 A8 R G pl n ks hR  v12 h12) (g_cwV 0 hts (lw_V q1020 q1022 qs32 q76 q1023) rfl rfl x_nextOf_ds ⟨Nat.le_trans (Nat.le_of_ble_eq_true rfl) hRf, Nat.le_trans (Nat.le_of_ble_eq_true rfl) hRl⟩) (x_recv hK hW xO199 rfl) hK hY (Nat.le_trans hB0 hS.1) hW hcs rfl hl.1 rfl (Nat.le_of_ble_eq_true rfl) dX0_scale_66 ?_
              obtain rfl := so1 hm9
              exact K9 ls (lv_sub hl [] rfl)
            · rw [if_pos c11] at hm9
              refine lv_aload_n hx hb dX0_scale_58 rfl (lv_at hl 0 rfl) ?_
              refine x_get (v := .int (I7 116)) hx hb hts hown hK hW xO199 in_X0 rfl 16 (by decide) q240 rfl rfl dX0_scale_59 ?_
              refine lv_goto (tgt := 69) hx hb dX0_scale_62 (by decide) ?_
              obtain rfl := so1 hm9
              exact K9 ls (lv_sub hl [] rfl)
          · rw [if_pos c10] at hm9
            refine lv_aload_n hx hb dX0_scale_46 rfl (lv_at hl 0 rfl) ?_
            refine x_get (v := .int (I7 114)) hx hb hts hown hK hW xO199 in_X0 rfl 14 (by decide) q238 rfl rfl dX0_scale_47 ?_
            refine lv_goto (tgt := 69) hx hb dX0_scale_50 (by decide) ?_
            obtain rfl := so1 hm9
            exact K9 ls (lv_sub hl [] rfl)
      · rw [if_pos c6] at hf
        refine lv_ldc (v := (-1000001)) hx hb hown (hts _ q289) dX0_scale_34 ?_
        obtain ⟨rfl, rfl, rfl⟩ := so3 hf
        exact W.iret hx hb hr (fun t ht _ => ⟨rfl, by rw [ht]; exact hW, hS.F ht⟩) hS.2.2 dX0_scale_36
  · rw [if_pos c2] at hf
    refine lv_ldc (v := (-1000002)) hx hb hown (hts _ q756) dX0_scale_7 ?_
    obtain ⟨rfl, rfl, rfl⟩ := so3 hf
    exact W.iret hx hb hr (fun t ht _ => ⟨rfl, by rw [ht]; exact hW, hS.F ht⟩) hS.2.2 dX0_scale_9
theorem x_scale_ds : yX0_scale.cls = RX0 ∧ yX0_scale.cls ≠ "java/lang/invoke/MethodHandle" ∧ yX0_scale.cls ≠ "java/lang/invoke/VarHandle" ∧ (parseMethodDescriptor yX0_scale.desc).map (fun d => d.parameters.length) = some 2 := by decide +kernel
def x_late_L14 (I : Nat → Int32) (A : Nat → Nat → Int32) (R : Nat → Option Nat) (G : Nat → Nat → Option Nat) (pl n : Nat) (ks : Nat → Nat) : Nat → Int32 → Int32 → Option (Int32 × Int32)
  | 0, _, _ => none
  | k + 1, x1, x2 =>
    if (I 204) ≤ x2 then (some (x1, x2)) else (ob1 (x_has (I 210) x2) fun (v2 : Int32) =>
      ob1 (if v2 = 0 then (ob1 (ldO (A 208) 8 x2) fun (v5 : Int32) =>
          if (I 211) ≤ v5 then ((some 0 : Option (Int32))) else ((some ((1 : Int32) <<< (x2 &&& 31)) : Option (Int32)))) else ((some 0 : Option (Int32)))) fun (v3 : Int32) =>
      x_late_L14 I A R G pl n ks k (x1 ||| v3) (x2 + 1))
set_option maxRecDepth 100000 in
set_option maxHeartbeats 4000000 in
theorem x_late_L14_w {p : Program} {l : Launch} {e : Env} {R0 : Room} {s : State} {m : MethodId} {args : Array Value} {below : List Frame} {meth : Method} {c : Code} {cells slots : Nat} {Q : State → Prop} {D : dd_} {s0 : State} {ad : Nat → Nat} {X : va_W} {base : Nat} (hx : p.tables.exec = Jvm.exec) (hb : c.code = cX0_late) (hml : c.maxLocals = 3) (hown : s.vm.findClass RX0 = some m.cls) (hts : ∀ w ∈ lw_all, w.before args s = true) (hK : Kx D s) (hY : s0.WarmedH s.vm) (h0 : ∀ w ∈ lw_tbl, va_Nw w s0) (hRf : 4 ≤ R0.frames) (hRl : 92 ≤ R0.locals) (hcs : cells ≤ R0.cells ∧ slots ≤ R0.slots) {H : Heap} {locs : List Loc} (hB : base ≤ H.size) (I : Nat → Int32) (A : Nat → Nat → Int32) (R : Nat → Option Nat) (G : Nat → Nat → Option Nat) (pl n : Nat) (ks : Nat → Nat) (hR : RegX D X pl n ks) (hW : WX D xS ad I A R G X H) (y1 : Int32) (y2 : Int32) (KX : ∀ (ls : Array Slot), lv_has ls 3 [(1, .int y1)] → W p l e R0 s m args below meth c H locs cells slots Q (F0 m 74 ls [])) : ∀ (k : Nat) (x1 : Int32) (x2 : Int32) (ls : Array Slot), x_late_L14 I A R G pl n ks k x1 x2 = some (y1, y2) → lv_has ls 3 [(0, .ref (ad 199)), (1, .int x1), (2, .int x2)] → W p l e R0 s m args below meth c H locs cells slots Q (F0 m 14 ls []) := by
  intro k
  induction k with
  | zero =>
    intro x1 x2 ls hf
    exact nomatch (show (none : Option (Int32 × Int32)) = some (y1, y2) from hf)
  | succ k ih =>
    intro x1 x2 ls hf hl
    have hf : (if (I 204) ≤ x2 then (some (x1, x2)) else (ob1 (x_has (I 210) x2) fun (v2 : Int32) =>
          ob1 (if v2 = 0 then (ob1 (ldO (A 208) 8 x2) fun (v5 : Int32) =>
              if (I 211) ≤ v5 then ((some 0 : Option (Int32))) else ((some ((1 : Int32) <<< (x2 &&& 31)) : Option (Int32)))) else ((some 0 : Option (Int32)))) fun (v3 : Int32) =>
          x_late_L14 I A R G pl n ks k (x1 ||| v3) (x2 + 1))) = some (y1, y2) := hf
    refine lv_iload_n hx hb dX0_late_14 rfl (lv_at hl 2 rfl) ?_
    refine lv_aload_n hx hb dX0_late_15 rfl (lv_at hl 0 rfl) ?_
    refine x_get (v := .ref (ad 299)) hx hb hts hown hK hW xO199 in_X0 rfl 4 (by decide) q228 rfl rfl dX0_late_16 ?_
    refine x_get (v := .int (I 204)) hx hb hts hown hK hW xO299 in_X1 rfl 4 (by decide) q168 rfl rfl dX0_late_19 ?_
    refine lv_icmp_ge (tgt := 74) hx hb dX0_late_22 (by decide) (fun c1 => ?_) (fun c1 => ?_)
    · rw [if_pos c1] at hf
      obtain ⟨rfl, rfl⟩ := so2 hf
      exact KX ls (lv_sub hl [1] rfl)
    · rw [if_neg c1] at hf
      refine lv_iload_n hx hb dX0_late_25 rfl (lv_at hl 1 rfl) ?_
      refine lv_aload_n hx hb dX0_late_26 rfl (lv_at hl 0 rfl) ?_
      refine x_get (v := .ref (ad 299)) hx hb hts hown hK hW xO199 in_X0 rfl 4 (by decide) q228 rfl rfl dX0_late_27 ?_
      refine x_get (v := .int (I 210)) hx hb hts hown hK hW xO299 in_X1 rfl 10 (by decide) q180 rfl rfl dX0_late_30 ?_
      refine lv_iload_n hx hb dX0_late_33 rfl (lv_at hl 2 rfl) ?_
      obtain ⟨v2, h2, hf⟩ := ob1_e hf
      refine x_sR (ov := some (.int v2)) (D := D) (s0 := s0) (Sc := nS) (adc := ad) (Ic := (fun _ => 0)) (Ac := (fun _ _ => 0)) (Rc := nR) (Gc := nG) (Xc := []) (base := base) (As := [.int (I 210), .int x2]) (rest := [.int x1]) ⟨hx, hb, hml, hown, hts⟩ (x_has_met l D s0 h0 ad [] base (I 210) x2 v2 h2) (va_cwS 2 hts (lw_S q853 q784 q76 q785) rfl rfl rfl x_has_ds.2 ⟨Nat.le_trans (Nat.le_of_ble_eq_true rfl) hRf, Nat.le_trans (Nat.le_of_ble_eq_true rfl) hRl⟩) hK hY hB WX_nil hcs rfl hl.1 rfl (Nat.le_of_ble_eq_true rfl) dX0_late_34 ?_
      obtain ⟨v3, hm3, hf⟩ := ob1_e hf
      refine w_cutL (nL := 3) (L := [(0, .ref (ad 199)), (2, .int x2)]) (pcj := 66) (st := [.int v3, .int x1]) (fun ls hl => ?_) (fun K3 => ?_)
      · refine lv_ior hx hb dX0_late_66 ?_
        refine lv_istore_n (lv' := [(1, .int (x1 ||| v3)), (0, .ref (ad 199)), (2, .int x2)]) hx hb dX0_late_67 rfl hl (by decide) rfl (fun ls hl => ?_)
        refine lv_iinc (v := x2 + 1) (lv' := [(2, .int (x2 + 1)), (1, .int (x1 ||| v3)), (0, .ref (ad 199))]) hx hb dX0_late_68 hl (k := 2) rfl (by rfl) (by decide) rfl (fun ls hl => ?_)
        refine lv_goto (tgt := 14) hx hb dX0_late_71 (by decide) ?_
        exact ih (x1 ||| v3) (x2 + 1) ls hf (lv_sub hl [2, 1, 0] rfl)
      · refine lv_if_ne (tgt := 65) hx hb dX0_late_37 (by decide) (fun c4 => ?_) (fun c4 => ?_)
        · rw [if_neg c4] at hm3
          refine lv_iconst (v := 0) hx hb dX0_late_65 (by decide) ?_
          obtain rfl := so1 hm3
          exact K3 ls (lv_sub hl [0, 2] rfl)
        · rw [if_pos c4] at hm3
          refine lv_aload_n hx hb dX0_late_40 rfl (lv_at hl 0 rfl) ?_
          refine x_get (v := .ref (ad 299)) hx hb hts hown hK hW xO199 in_X0 rfl 4 (by decide) q228 rfl rfl dX0_late_41 ?_
          refine x_get (v := .int (I 211)) hx hb hts hown hK hW xO299 in_X1 rfl 11 (by decide) q182 rfl rfl dX0_late_44 ?_
          refine lv_aload_n hx hb dX0_late_47 rfl (lv_at hl 0 rfl) ?_
          refine x_get (v := .ref (ad 299)) hx hb hts hown hK hW xO199 in_X0 rfl 4 (by decide) q228 rfl rfl dX0_late_48 ?_
          refine x_get (v := .ref (ad 208)) hx hb hts hown hK hW xO299 in_X1 rfl 8 (by decide) q176 rfl rfl dX0_late_51 ?_
          refine lv_iload_n hx hb dX0_late_54 rfl (lv_at hl 2 rfl) ?_
          obtain ⟨v5, hv5, hm3⟩ := ob1_e hm3
          refine x_iald hx hb hK hW xA208 hv5 dX0_late_55 ?_
          refine lv_icmp_le (tgt := 65) hx hb dX0_late_56 (by decide) (fun c6 => ?_) (fun c6 => ?_)
          · rw [if_pos c6] at hm3
            refine lv_iconst (v := 0) hx hb dX0_late_65 (by decide) ?_
            obtain rfl := so1 hm3
            exact K3 ls (lv_sub hl [0, 2] rfl)
          · rw [if_neg c6] at hm3
            refine lv_iconst (v := 1) hx hb dX0_late_59 (by decide) ?_
            refine lv_iload_n hx hb dX0_late_60 rfl (lv_at hl 2 rfl) ?_
            refine lv_ishl hx hb dX0_late_61 ?_
            refine lv_goto (tgt := 66) hx hb dX0_late_62 (by decide) ?_
            obtain rfl := so1 hm3
            exact K3 ls (lv_sub hl [0, 2] rfl)
def x_late (I : Nat → Int32) (A : Nat → Nat → Int32) (R : Nat → Option Nat) (G : Nat → Nat → Option Nat) (pl n : Nat) (ks : Nat → Nat) : Option (Int32) :=
  ob1 (x_isParish I A R G pl n ks) fun (v1 : Int32) =>
  if v1 = 0 then (some (-1000002)) else (ob2 (x_late_L14 I A R G pl n ks NF 0 0) fun (v3 : Int32) (v4 : Int32) =>
    some v3)
set_option maxRecDepth 100000 in
set_option maxHeartbeats 4000000 in
theorem x_late_met (l : Launch) (D : dd_) (s0 : State) (h0 : ∀ w ∈ lw_tbl, va_Nw w s0) (ad : Nat → Nat) (X : va_W) (base : Nat) (I : Nat → Int32) (A : Nat → Nat → Int32) (R : Nat → Option Nat) (G : Nat → Nat → Option Nat) (pl n : Nat) (ks : Nat → Nat) (hR : RegX D X pl n ks) (r : Int32) (hf : x_late I A R G pl n ks  = some r) : Met l yX0_late (ws_ yX0_late cX0_late 3 (some .int)) ({ frames := 4, cells := 0, slots := 0, locals := 92 }) (PcX D s0 xS ad I A R G X base [.ref (ad 199)]) (QcR (some (.int r))) 0 0 (fun _ => False) := by
  refine Met.ofW (cc := cX0_late) (maxL := 3) (ret := (some .int)) (by decide) rfl ?_
  intro p e s m args below meth c s₁ B hml hv
  obtain ⟨rfl, hK, hY, hB, hW⟩ := hv
  have hx := B.exec
  have hb := B.bytes
  have hr := B.returns
  have hts := atoms_spec (ws := (ws_ yX0_late cX0_late 3 (some .int))) B.pre
  have hts : ∀ w ∈ lw_all, w.before _ s = true := fun w h => hts w (List.mem_cons_of_mem _ h)
  have hown : s.vm.findClass RX0 = some m.cls := findClass_of_methodNamed B.named
  have hlocks := B.notSynchronized
  have hRf : 4 ≤ (headSpec (ws_ yX0_late cX0_late 3 (some .int)) ({ frames := 4, cells := 0, slots := 0, locals := 92 })).room.frames := Nat.le_refl _
  have hRl : 92 ≤ (headSpec (ws_ yX0_late cX0_late 3 (some .int)) ({ frames := 4, cells := 0, slots := 0, locals := 92 })).room.locals := Nat.le_refl _
  have hcs : 0 ≤ (headSpec (ws_ yX0_late cX0_late 3 (some .int)) ({ frames := 4, cells := 0, slots := 0, locals := 92 })).room.cells ∧ 0 ≤ (headSpec (ws_ yX0_late cX0_late 3 (some .int)) ({ frames := 4, cells := 0, slots := 0, locals := 92 })).room.slots := ⟨Nat.zero_le _, Nat.zero_le _⟩
  have hl := lv_entry ([.ref (ad 199)]) (n := 3) (Nat.le_of_ble_eq_true rfl)
  rw [lg_entry_eq]
  generalize (lg_sl ([.ref (ad 199)]) ++ List.replicate (3 - (lg_sl ([.ref (ad 199)])).length) Slot.unset).toArray = ls at hl ⊢
  have hl : lv_has ls 3 [(0, .ref (ad 199))] := hl
  have hf : (ob1 (x_isParish I A R G pl n ks) fun (v1 : Int32) =>
    if v1 = 0 then (some (-1000002)) else (ob2 (x_late_L14 I A R G pl n ks NF 0 0) fun (v3 : Int32) (v4 : Int32) =>
      some v3)) = some r := hf
  refine lv_aload_n hx hb dX0_late_0 rfl (lv_at hl 0 rfl) ?_
  obtain ⟨v1, h1, hf⟩ := ob1_e hf
  refine x_vR (ov := some (.int v1)) (D := D) (s0 := s0) (Sc := xS) (adc := ad) (Ic := I) (Ac := A) (Rc := R) (Gc := G) (Xc := X) (base := base) (As := []) (rest := []) (b := ad 199) (C := RX0) ⟨hx, hb, hml, hown, hts⟩ (x_isParish_met l D s0 h0 ad X base I A R G pl n ks hR  v1 h1) (g_cwV 0 hts (lw_V q863 q865 qs21 q76 q866) rfl rfl x_isParish_ds ⟨Nat.le_trans (Nat.le_of_ble_eq_true rfl) hRf, Nat.le_trans (Nat.le_of_ble_eq_true rfl) hRl⟩) (x_recv hK hW xO199 rfl) hK hY hB hW hcs rfl hl.1 rfl (Nat.le_of_ble_eq_true rfl) dX0_late_1 ?_
  refine lv_if_ne (tgt := 10) hx hb dX0_late_4 (by decide) (fun c2 => ?_) (fun c2 => ?_)
  · rw [if_neg c2] at hf
    refine lv_iconst (v := 0) hx hb dX0_late_10 (by decide) ?_
    refine lv_istore_n (lv' := [(1, .int 0), (0, .ref (ad 199))]) hx hb dX0_late_11 rfl hl (by decide) rfl (fun ls hl => ?_)
    refine lv_iconst (v := 0) hx hb dX0_late_12 (by decide) ?_
    refine lv_istore_n (lv' := [(2, .int 0), (1, .int 0), (0, .ref (ad 199))]) hx hb dX0_late_13 rfl hl (by decide) rfl (fun ls hl => ?_)
    obtain ⟨v3, v4, hq4, hf⟩ := ob2_e hf
    refine x_late_L14_w hx hb hml hown hts hK hY h0 hRf hRl hcs hB I A R G pl n ks hR hW v3 v4 (fun ls hl => ?_) NF 0 0 ls hq4 (lv_sub hl [2, 1, 0] rfl)
    refine lv_iload_n hx hb dX0_late_74 rfl (lv_at hl 0 rfl) ?_
    obtain rfl := so1 hf
    exact W.iret hx hb hr (fun t ht _ => ⟨rfl, ht⟩) (fun q hq => by cases hq) dX0_late_75
  · rw [if_pos c2] at hf
    refine lv_ldc (v := (-1000002)) hx hb hown (hts _ q756) dX0_late_7 ?_
    obtain rfl := so1 hf
    exact W.iret hx hb hr (fun t ht _ => ⟨rfl, ht⟩) (fun q hq => by cases hq) dX0_late_9
theorem x_late_ds : yX0_late.cls = RX0 ∧ yX0_late.cls ≠ "java/lang/invoke/MethodHandle" ∧ yX0_late.cls ≠ "java/lang/invoke/VarHandle" ∧ (parseMethodDescriptor yX0_late.desc).map (fun d => d.parameters.length) = some 0 := by decide +kernel
def x_kind (I : Nat → Int32) (A : Nat → Nat → Int32) (R : Nat → Option Nat) (G : Nat → Nat → Option Nat) (pl n : Nat) (ks : Nat → Nat) (a0 : Int32) : Option (Int32) :=
  ob1 (x_isPerson I A R G pl n ks a0) fun (v1 : Int32) =>
  ob1 (if v1 = 0 then ((some (-1000001) : Option (Int32))) else (ob1 (grd (R 201) pl) fun (z4 : Unit) =>
      ob1 (pgO n a0) fun (j5 : Nat) =>
      ob1 (k_kind (ks j5) ) fun (v6 : Int32) =>
      (some v6 : Option (Int32)))) fun (v2 : Int32) =>
  some v2
set_option maxRecDepth 100000 in
set_option maxHeartbeats 4000000 in
theorem x_kind_met (l : Launch) (D : dd_) (s0 : State) (h0 : ∀ w ∈ lw_tbl, va_Nw w s0) (ad : Nat → Nat) (X : va_W) (base : Nat) (I : Nat → Int32) (A : Nat → Nat → Int32) (R : Nat → Option Nat) (G : Nat → Nat → Option Nat) (pl n : Nat) (ks : Nat → Nat) (hR : RegX D X pl n ks) (a0 : Int32) (r : Int32) (hf : x_kind I A R G pl n ks a0 = some r) : Met l yX0_kind (ws_ yX0_kind cX0_kind 2 (some .int)) ({ frames := 4, cells := 0, slots := 0, locals := 96 }) (PcX D s0 xS ad I A R G X base [.ref (ad 199), .int a0]) (QcR (some (.int r))) 0 0 (fun _ => False) := by
  refine Met.ofW (cc := cX0_kind) (maxL := 2) (ret := (some .int)) (by decide) rfl ?_
  intro p e s m args below meth c s₁ B hml hv
  obtain ⟨rfl, hK, hY, hB, hW⟩ := hv
  have hx := B.exec
  have hb := B.bytes
  have hr := B.returns
  have hts := atoms_spec (ws := (ws_ yX0_kind cX0_kind 2 (some .int))) B.pre
  have hts : ∀ w ∈ lw_all, w.before _ s = true := fun w h => hts w (List.mem_cons_of_mem _ h)
  have hown : s.vm.findClass RX0 = some m.cls := findClass_of_methodNamed B.named
  have hlocks := B.notSynchronized
  have hRf : 4 ≤ (headSpec (ws_ yX0_kind cX0_kind 2 (some .int)) ({ frames := 4, cells := 0, slots := 0, locals := 96 })).room.frames := Nat.le_refl _
  have hRl : 96 ≤ (headSpec (ws_ yX0_kind cX0_kind 2 (some .int)) ({ frames := 4, cells := 0, slots := 0, locals := 96 })).room.locals := Nat.le_refl _
  have hcs : 0 ≤ (headSpec (ws_ yX0_kind cX0_kind 2 (some .int)) ({ frames := 4, cells := 0, slots := 0, locals := 96 })).room.cells ∧ 0 ≤ (headSpec (ws_ yX0_kind cX0_kind 2 (some .int)) ({ frames := 4, cells := 0, slots := 0, locals := 96 })).room.slots := ⟨Nat.zero_le _, Nat.zero_le _⟩
  have hl := lv_entry ([.ref (ad 199), .int a0]) (n := 2) (Nat.le_of_ble_eq_true rfl)
  rw [lg_entry_eq]
  generalize (lg_sl ([.ref (ad 199), .int a0]) ++ List.replicate (2 - (lg_sl ([.ref (ad 199), .int a0])).length) Slot.unset).toArray = ls at hl ⊢
  have hl : lv_has ls 2 [(0, .ref (ad 199)), (1, .int a0)] := hl
  have hf : (ob1 (x_isPerson I A R G pl n ks a0) fun (v1 : Int32) =>
    ob1 (if v1 = 0 then ((some (-1000001) : Option (Int32))) else (ob1 (grd (R 201) pl) fun (z4 : Unit) =>
        ob1 (pgO n a0) fun (j5 : Nat) =>
        ob1 (k_kind (ks j5) ) fun (v6 : Int32) =>
        (some v6 : Option (Int32)))) fun (v2 : Int32) =>
    some v2) = some r := hf
  refine lv_aload_n hx hb dX0_kind_0 rfl (lv_at hl 0 rfl) ?_
  refine lv_iload_n hx hb dX0_kind_1 rfl (lv_at hl 1 rfl) ?_
  obtain ⟨v1, h1, hf⟩ := ob1_e hf
  refine x_vR (ov := some (.int v1)) (D := D) (s0 := s0) (Sc := xS) (adc := ad) (Ic := I) (Ac := A) (Rc := R) (Gc := G) (Xc := X) (base := base) (As := [.int a0]) (rest := []) (b := ad 199) (C := RX0) ⟨hx, hb, hml, hown, hts⟩ (x_isPerson_met l D s0 h0 ad X base I A R G pl n ks hR a0 v1 h1) (g_cwV 1 hts (lw_V q761 q763 qs18 q76 q764) rfl rfl x_isPerson_ds ⟨Nat.le_trans (Nat.le_of_ble_eq_true rfl) hRf, Nat.le_trans (Nat.le_of_ble_eq_true rfl) hRl⟩) (x_recv hK hW xO199 rfl) hK hY hB hW hcs rfl hl.1 rfl (Nat.le_of_ble_eq_true rfl) dX0_kind_2 ?_
  obtain ⟨v2, hm2, hf⟩ := ob1_e hf
  refine w_cutL (nL := 2) (L := []) (pcj := 32) (st := [.int v2]) (fun ls hl => ?_) (fun K2 => ?_)
  · obtain rfl := so1 hf
    exact W.iret hx hb hr (fun t ht _ => ⟨rfl, ht⟩) (fun q hq => by cases hq) dX0_kind_32
  · refine lv_if_eq (tgt := 30) hx hb dX0_kind_5 (by decide) (fun c3 => ?_) (fun c3 => ?_)
    · rw [if_pos c3] at hm2
      refine lv_ldc (v := (-1000001)) hx hb hown (hts _ q289) dX0_kind_30 ?_
      obtain rfl := so1 hm2
      exact K2 ls (lv_sub hl [] rfl)
    · rw [if_neg c3] at hm2
      refine lv_aload_n hx hb dX0_kind_8 rfl (lv_at hl 0 rfl) ?_
      refine x_get (v := .ref (ad 299)) hx hb hts hown hK hW xO199 in_X0 rfl 4 (by decide) q228 rfl rfl dX0_kind_9 ?_
      obtain ⟨z4, hz4, hm2⟩ := ob1_e hm2
      refine x_get (v := .ref pl) hx hb hts hown hK hW xO299 in_X1 rfl 1 (by decide) q158 rfl (congrArg (fun z => some (va_rf z)) (grd_e hz4)) dX0_kind_12 ?_
      refine lv_iload_n hx hb dX0_kind_15 rfl (lv_at hl 1 rfl) ?_
      obtain ⟨j5, hj5, hm2⟩ := ob1_e hm2
      refine pe_get_X0 hx hb hml hown hts hK hY h0 (Nat.le_trans (Nat.le_of_ble_eq_true rfl) hRf) (Nat.le_trans (Nat.le_of_ble_eq_true rfl) hRl) hcs hB hW hR hj5 hl.1 (Nat.le_of_ble_eq_true rfl) dX0_kind_16 (fun paj5 hmpaj5 h1paj5 h5paj5 => ?_)
      refine pe_cast_X0 hx hb hown hts hK hY h0 hW hmpaj5 h1paj5 h5paj5 dX0_kind_21 ?_
      obtain ⟨v6, hv6, hm2⟩ := ob1_e hm2
      refine pe_kind_X0 hx hb hml hown hts hK hY h0 (Nat.le_trans (Nat.le_of_ble_eq_true rfl) hRf) (Nat.le_trans (Nat.le_of_ble_eq_true rfl) hRl) hcs hB hW hmpaj5 h1paj5 h5paj5 hv6 hl.1 (Nat.le_of_ble_eq_true rfl) dX0_kind_24 ?_
      refine lv_goto (tgt := 32) hx hb dX0_kind_27 (by decide) ?_
      obtain rfl := so1 hm2
      exact K2 ls (lv_sub hl [] rfl)
theorem x_kind_ds : yX0_kind.cls = RX0 ∧ yX0_kind.cls ≠ "java/lang/invoke/MethodHandle" ∧ yX0_kind.cls ≠ "java/lang/invoke/VarHandle" ∧ (parseMethodDescriptor yX0_kind.desc).map (fun d => d.parameters.length) = some 1 := by decide +kernel
