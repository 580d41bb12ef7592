section
/-! kinds: which are plain, ordered, summed; what signs give -/
set_option maxRecDepth 100000
section KINDS
variable {h : fi_H} {d : Nat}
theorem kd_cl (H : Shp h) {k : Int} (hk : 2 ≤ k ∧ k ≤ 9) : h 0 k.toNat 0 = 159 := by
  have : k = 2 ∨ k = 3 ∨ k = 4 ∨ k = 5 ∨ k = 6 ∨ k = 7 ∨ k = 8 ∨ k = 9 := by omega
  rcases this with rfl | rfl | rfl | rfl | rfl | rfl | rfl | rfl
  · exact s0_2 H
  · exact s0_3 H
  · exact s0_4 H
  · exact s0_5 H
  · exact s0_6 H
  · exact s0_7 H
  · exact s0_8 H
  · exact s0_9 H
theorem sg_cl (H : Shp h) {s : Int} (hs : 0 ≤ s ∧ s ≤ 14) : h 0 (15 + s).toNat 0 = 167 ∧ h 572 (15 + s).toNat 0 = s := by
  have : s = 0 ∨ s = 1 ∨ s = 2 ∨ s = 3 ∨ s = 4 ∨ s = 5 ∨ s = 6 ∨ s = 7 ∨ s = 8 ∨ s = 9 ∨ s = 10 ∨ s = 11 ∨ s = 12 ∨ s = 13 ∨ s = 14 := by omega
  rcases this with rfl | rfl | rfl | rfl | rfl | rfl | rfl | rfl | rfl | rfl | rfl | rfl | rfl | rfl | rfl
  · exact ⟨s0_15 H, sf_572_15 H⟩
  · exact ⟨s0_16 H, sf_572_16 H⟩
  · exact ⟨s0_17 H, sf_572_17 H⟩
  · exact ⟨s0_18 H, sf_572_18 H⟩
  · exact ⟨s0_19 H, sf_572_19 H⟩
  · exact ⟨s0_20 H, sf_572_20 H⟩
  · exact ⟨s0_21 H, sf_572_21 H⟩
  · exact ⟨s0_22 H, sf_572_22 H⟩
  · exact ⟨s0_23 H, sf_572_23 H⟩
  · exact ⟨s0_24 H, sf_572_24 H⟩
  · exact ⟨s0_25 H, sf_572_25 H⟩
  · exact ⟨s0_26 H, sf_572_26 H⟩
  · exact ⟨s0_27 H, sf_572_27 H⟩
  · exact ⟨s0_28 H, sf_572_28 H⟩
  · exact ⟨s0_29 H, sf_572_29 H⟩
theorem kA_sum (H : Shp h) {k : Int} (hk : 0 ≤ k ∧ k ≤ 7) : fj_run (d + 1) 252 h [(4, 2 + k)] = some (.inl (some (0, if isSm k then 1 else 0)), h) := by
  rw [m_252 d (2 + k) H (kd_cl H (by omega)) (by decide)]
  (repeat' split) <;> first | rfl | (exfalso; omega)
theorem kA_ord (H : Shp h) {k : Int} (hk : 0 ≤ k ∧ k ≤ 7) : fj_run (d + 1) 255 h [(4, 2 + k)] = some (.inl (some (0, if isSz k then 1 else 0)), h) := by
  rw [m_255 d (2 + k) H (kd_cl H (by omega)) (by decide)]
  (repeat' split) <;> first | rfl | (exfalso; omega)
theorem kA_pln (H : Shp h) {k : Int} (hk : 0 ≤ k ∧ k ≤ 7) : fj_run (d + 1) 292 h [(4, 2 + k)] = some (.inl (some (0, if k = 1 ∨ k = 3 then 1 else 0)), h) := by
  rw [m_292 d (2 + k) H (kd_cl H (by omega)) (by decide)]
  (repeat' split) <;> first | rfl | (exfalso; omega)
theorem kA_two2 (H : Shp h) {k l : Int} : fj_run (d + 1) 293 h [(4, 2 + k), (4, 2 + l)] = some (.inl (some (4, if k = 3 ∨ l = 3 then 5 else 3)), h) := by
  rw [m_293 d (2 + k) (2 + l) H]
  (repeat' split) <;> first | rfl | (exfalso; omega)
theorem kA_gives (H : Shp h) {o k l : Int} (ho : 1 ≤ o ∧ o ≤ 17 ∧ o ≠ 3 ∧ o ≠ 15) (hk : 0 ≤ k ∧ k ≤ 7) (hl : 0 ≤ l ∧ l ≤ 7) :
    fj_run (d + 3) 291 h [(4, 15 + sgn o), (4, 2 + k), (4, 2 + l)] = some (.inl (some (4, if kTwo o k l = -1 then 0 else 2 + kTwo o k l)), h) := by
  have hs : 0 ≤ sgn o ∧ sgn o ≤ 14 := by unfold sgn; (repeat' split) <;> omega
  obtain ⟨c1, c2⟩ := sg_cl H hs
  have v1 : fi_vt 334 159 = some 292 := rfl
  have v2 : fi_vt 234 167 = some 37 := rfl
  have v3 : fi_vt 325 159 = some 255 := rfl
  have hin : fi_in 167 572 = true := rfl
  have ck := kd_cl H (k := 2 + k) (by omega)
  have cl := kd_cl H (k := 2 + l) (by omega)
  have start : fj_run (d + 3) 291 h [(4, 15 + sgn o), (4, 2 + k), (4, 2 + l)] = c_291_19 (d + 2) (15 + sgn o) (2 + k) (2 + l) (if isMx k l then 1 else 0) h := by
    rw [m_291 (d + 2) _ _ _ H c1 (by decide), ck, v1, dv_s, kA_pln H hk, ca_ret, ite0, e_291_18 _ _ _ _ H c1 (by decide), cl, v1, dv_s, kA_pln H hl, ca_ret, ite0]
    by_cases q1 : k = 1 ∨ k = 3
    · rw [if_pos q1]
      by_cases q2 : l = 1 ∨ l = 3
      · rw [if_pos q2, if_pos (⟨q1, q2⟩ : isMx k l)]
      · rw [if_neg q2, e_291_18 _ _ _ _ H c1 (by decide), if_neg (fun z : isMx k l => q2 z.2)]
    · rw [if_neg q1, if_neg (fun z : isMx k l => q1 z.1)]
  have ord : fj_run (d + 2) 37 h [(4, 15 + sgn o)] = some (.inl (some (0, sgn o)), h) := by rw [m_37 (d + 1) _ H c1 (by decide), c1, if_pos hin, c2]
  rw [start, e_291_19 _ _ _ _ _ H c1 (by decide), c1, v2, dv_s, ord, ca_ret]
  have i3 : ∀ {c : Prop} [Decidable c] {x y : fk_R}, (if (if c then (1 : Int) else 0) = 0 then x else y) = if c then y else x := fun {c} _ {x y} => ite0
  have ck' := ck
  have : o = 1 ∨ o = 2 ∨ o = 4 ∨ o = 5 ∨ o = 6 ∨ o = 7 ∨ o = 8 ∨ o = 9 ∨ o = 10 ∨ o = 11 ∨ o = 12 ∨ o = 13 ∨ o = 14 ∨ o = 16 ∨ o = 17 := by omega
  generalize hX : (if kTwo o k l = -1 then (0 : Int) else 2 + kTwo o k l) = X
  have iM : ∀ {x y : fk_R}, (if (if isMx k l then (1 : Int) else 0) = 0 then x else y) = if isMx k l then y else x := ite0
  have iS : ∀ {x y : fk_R}, (if (if isSz k then (1 : Int) else 0) = 0 then x else y) = if isSz k then y else x := ite0
  have iK : ∀ {x y : fk_R}, (if (if k = 1 ∨ k = 3 then (1 : Int) else 0) = 0 then x else y) = if k = 1 ∨ k = 3 then y else x := ite0
  have iL : ∀ {x y : fk_R}, (if (if l = 1 ∨ l = 3 then (1 : Int) else 0) = 0 then x else y) = if l = 1 ∨ l = 3 then y else x := ite0
  rcases this with rfl | rfl | rfl | rfl | rfl | rfl | rfl | rfl | rfl | rfl | rfl | rfl | rfl | rfl | rfl
  · rw [show sgn 1 = 0 from rfl]; simp only [Int.reduceEq, ↓reduceIte, Int.reduceAdd]
    rw [e_291_96 _ _ _ H]
    (repeat' split) <;> refine ret_eq ?_ <;> rw [← hX] <;> simp [kTwo] <;> (repeat' split) <;> omega
  · rw [show sgn 2 = 1 from rfl]; simp only [Int.reduceEq, ↓reduceIte, Int.reduceAdd]
    rw [e_291_96 _ _ _ H]
    (repeat' split) <;> refine ret_eq ?_ <;> rw [← hX] <;> simp [kTwo] <;> (repeat' split) <;> omega
  · rw [show sgn 4 = 2 from rfl]; simp only [Int.reduceEq, ↓reduceIte, Int.reduceAdd]
    rw [e_291_114 _ _ _ _ H, iM]
    (repeat' split) <;> refine ret_eq ?_ <;> rw [← hX] <;> simp [kTwo] <;> (repeat' split) <;> omega
  · rw [show sgn 5 = 3 from rfl]; simp only [Int.reduceEq, ↓reduceIte, Int.reduceAdd]
    rw [e_291_114 _ _ _ _ H, iM]
    (repeat' split) <;> refine ret_eq ?_ <;> rw [← hX] <;> simp [kTwo] <;> (repeat' split) <;> omega
  · rw [show sgn 6 = 4 from rfl]; simp only [Int.reduceEq, ↓reduceIte, Int.reduceAdd]
    rw [e_291_131 _ _ _ _ H, iM, ck, v3, dv_s, kA_ord H hk, ca_ret, iS]
    (repeat' split) <;> refine ret_eq ?_ <;> rw [← hX] <;> simp [kTwo] <;> (repeat' split) <;> omega
  · rw [show sgn 7 = 5 from rfl]; simp only [Int.reduceEq, ↓reduceIte, Int.reduceAdd]
    rw [e_291_131 _ _ _ _ H, iM, ck, v3, dv_s, kA_ord H hk, ca_ret, iS]
    (repeat' split) <;> refine ret_eq ?_ <;> rw [← hX] <;> simp [kTwo] <;> (repeat' split) <;> omega
  · rw [show sgn 8 = 6 from rfl]; simp only [Int.reduceEq, ↓reduceIte, Int.reduceAdd]
    rw [e_291_131 _ _ _ _ H, iM, ck, v3, dv_s, kA_ord H hk, ca_ret, iS]
    (repeat' split) <;> refine ret_eq ?_ <;> rw [← hX] <;> simp [kTwo] <;> (repeat' split) <;> omega
  · rw [show sgn 9 = 7 from rfl]; simp only [Int.reduceEq, ↓reduceIte, Int.reduceAdd]
    rw [e_291_131 _ _ _ _ H, iM, ck, v3, dv_s, kA_ord H hk, ca_ret, iS]
    (repeat' split) <;> refine ret_eq ?_ <;> rw [← hX] <;> simp [kTwo] <;> (repeat' split) <;> omega
  · rw [show sgn 10 = 8 from rfl]; simp only [Int.reduceEq, ↓reduceIte, Int.reduceAdd]
    rw [e_291_155 _ 23 _ _ _ H (show h 0 (Int.toNat 23) 0 = 167 from s0_23 H) (by decide), iM, kA_two2 H, ca_ret]
    (repeat' split) <;> refine ret_eq ?_ <;> rw [← hX] <;> simp [kTwo] <;> (repeat' split) <;> omega
  · rw [show sgn 11 = 9 from rfl]; simp only [Int.reduceEq, ↓reduceIte, Int.reduceAdd]
    rw [e_291_155 _ 24 _ _ _ H (show h 0 (Int.toNat 24) 0 = 167 from s0_24 H) (by decide), iM, kA_two2 H, ca_ret]
    (repeat' split) <;> refine ret_eq ?_ <;> rw [← hX] <;> simp [kTwo] <;> (repeat' split) <;> omega
  · rw [show sgn 12 = 10 from rfl]; simp only [Int.reduceEq, ↓reduceIte, Int.reduceAdd]
    rw [e_291_235 _ _ _ _ H, iM, cl, v1, dv_s, kA_pln H hl, ca_ret, iL, e_291_259 _ _ _ H, ck, v1, dv_s, kA_pln H hk, ca_ret, iK, e_291_277 _ _ _ H, e_291_291 _ _ _ H, e_291_309 _ _ _ H, kA_two2 H, ca_ret]
    have hk8 : k = 0 ∨ k = 1 ∨ k = 2 ∨ k = 3 ∨ k = 4 ∨ k = 5 ∨ k = 6 ∨ k = 7 := by omega
    have hl8 : l = 0 ∨ l = 1 ∨ l = 2 ∨ l = 3 ∨ l = 4 ∨ l = 5 ∨ l = 6 ∨ l = 7 := by omega
    rw [← hX]
    rcases hk8 with rfl | rfl | rfl | rfl | rfl | rfl | rfl | rfl <;> rcases hl8 with rfl | rfl | rfl | rfl | rfl | rfl | rfl | rfl <;> rfl
  · rw [show sgn 13 = 11 from rfl]; simp only [Int.reduceEq, ↓reduceIte, Int.reduceAdd]
    rw [e_291_327 _ _ _ _ H, iM, cl, v1, dv_s, kA_pln H hl, ca_ret, iL]
    (repeat' split) <;> refine ret_eq ?_ <;> rw [← hX] <;> simp [kTwo] <;> (repeat' split) <;> omega
  · rw [show sgn 14 = 12 from rfl]; simp only [Int.reduceEq, ↓reduceIte, Int.reduceAdd]
    rw [e_291_384 _ _ _ H]
    (repeat' split) <;> refine ret_eq ?_ <;> rw [← hX] <;> simp [kTwo] <;> (repeat' split) <;> omega
  · rw [show sgn 16 = 13 from rfl]; simp only [Int.reduceEq, ↓reduceIte, Int.reduceAdd]
    rw [e_291_416 _ _ _ H]
    (repeat' split) <;> refine ret_eq ?_ <;> rw [← hX] <;> simp [kTwo] <;> (repeat' split) <;> omega
  · rw [show sgn 17 = 14 from rfl]; simp only [Int.reduceEq, ↓reduceIte, Int.reduceAdd]
    rw [e_291_429 _ _ _ H]
    (repeat' split) <;> refine ret_eq ?_ <;> rw [← hX] <;> simp [kTwo] <;> (repeat' split) <;> omega
theorem kB_mx (H : Shp h) {k l : Int} : fj_run (d + 1) 563 h [(0, k), (0, l)] = some (.inl (some (0, if isMx k l then 1 else 0)), h) := by
  rw [m_563 d k l H, e_563_10 d l H]
  (repeat' split) <;> first | rfl | (exfalso; omega)
theorem kB_sz (H : Shp h) {k : Int} : fj_run (d + 1) 556 h [(0, k)] = some (.inl (some (0, if isSz k then 1 else 0)), h) := by
  rw [m_556 d k H]
  (repeat' split) <;> first | rfl | (exfalso; omega)
theorem kB_two (H : Shp h) {o k l : Int} (ho : 1 ≤ o ∧ o ≤ 14 ∧ o ≠ 3) (hk : 0 ≤ k ∧ k ≤ 7) (hl : 0 ≤ l ∧ l ≤ 7) : fj_run (d + 2) 562 h [(0, o), (0, k), (0, l)] = some (.inl (some (0, kTwo o k l)), h) := by
  have iM : ∀ {x y : fk_R}, (if (if isMx k l then (1 : Int) else 0) = 0 then x else y) = if isMx k l then y else x := ite0
  have iS : ∀ {x y : fk_R}, (if (if isSz k then (1 : Int) else 0) = 0 then x else y) = if isSz k then y else x := ite0
  have : o = 1 ∨ o = 2 ∨ o = 4 ∨ o = 5 ∨ o = 6 ∨ o = 7 ∨ o = 8 ∨ o = 9 ∨ o = 10 ∨ o = 11 ∨ o = 12 ∨ o = 13 ∨ o = 14 := by omega
  generalize hX : kTwo o k l = X
  rcases this with rfl | rfl | rfl | rfl | rfl | rfl | rfl | rfl | rfl | rfl | rfl | rfl | rfl <;> rw [m_562 (d + 1) _ k l H] <;> simp only [Int.reduceEq, ↓reduceIte]
  · (repeat' split) <;> refine ret_eq ?_ <;> rw [← hX] <;> simp [kTwo] <;> (repeat' split) <;> omega
  · (repeat' split) <;> refine ret_eq ?_ <;> rw [← hX] <;> simp [kTwo] <;> (repeat' split) <;> omega
  · rw [kB_mx H, ca_ret, iM]
    (repeat' split) <;> refine ret_eq ?_ <;> rw [← hX] <;> simp [kTwo] <;> (repeat' split) <;> omega
  · rw [kB_mx H, ca_ret, iM]
    (repeat' split) <;> refine ret_eq ?_ <;> rw [← hX] <;> simp [kTwo] <;> (repeat' split) <;> omega
  · rw [kB_sz H, ca_ret, iS, e_562_113 _ _ _ H, kB_mx H, ca_ret, iM]
    (repeat' split) <;> refine ret_eq ?_ <;> rw [← hX] <;> simp [kTwo] <;> (repeat' split) <;> omega
  · rw [kB_sz H, ca_ret, iS, e_562_113 _ _ _ H, kB_mx H, ca_ret, iM]
    (repeat' split) <;> refine ret_eq ?_ <;> rw [← hX] <;> simp [kTwo] <;> (repeat' split) <;> omega
  · rw [kB_sz H, ca_ret, iS, e_562_113 _ _ _ H, kB_mx H, ca_ret, iM]
    (repeat' split) <;> refine ret_eq ?_ <;> rw [← hX] <;> simp [kTwo] <;> (repeat' split) <;> omega
  · rw [kB_sz H, ca_ret, iS, e_562_113 _ _ _ H, kB_mx H, ca_ret, iM]
    (repeat' split) <;> refine ret_eq ?_ <;> rw [← hX] <;> simp [kTwo] <;> (repeat' split) <;> omega
  · rw [kB_mx H, ca_ret, iM]
    (repeat' split) <;> refine ret_eq ?_ <;> rw [← hX] <;> simp [kTwo] <;> (repeat' split) <;> omega
  · rw [kB_mx H, ca_ret, iM]
    (repeat' split) <;> refine ret_eq ?_ <;> rw [← hX] <;> simp [kTwo] <;> (repeat' split) <;> omega
  · rw [kB_mx H, ca_ret, iM, e_562_248 _ _ _ H, e_562_263 _ _ _ H, e_562_280 _ _ _ H, e_562_290 _ _ _ H]
    have hk8 : k = 0 ∨ k = 1 ∨ k = 2 ∨ k = 3 ∨ k = 4 ∨ k = 5 ∨ k = 6 ∨ k = 7 := by omega
    have hl8 : l = 0 ∨ l = 1 ∨ l = 2 ∨ l = 3 ∨ l = 4 ∨ l = 5 ∨ l = 6 ∨ l = 7 := by omega
    rw [← hX]
    rcases hk8 with rfl | rfl | rfl | rfl | rfl | rfl | rfl | rfl <;> rcases hl8 with rfl | rfl | rfl | rfl | rfl | rfl | rfl | rfl <;> rfl
  · rw [kB_mx H, ca_ret, iM]
    (repeat' split) <;> refine ret_eq ?_ <;> rw [← hX] <;> simp [kTwo] <;> (repeat' split) <;> omega
  · (repeat' split) <;> refine ret_eq ?_ <;> rw [← hX] <;> simp [kTwo] <;> (repeat' split) <;> omega
end KINDS
end
