section
/-! reading: whether a name is at hand; the function of a word -/
set_option maxRecDepth 100000
theorem StrC.hs {h h' : fi_H} {s r : Int} {k : Nat} {c : Nat → Int} (S : StrC h s k c) (F : Fr (whs r) h h') : StrC h' s k c := by
  obtain ⟨s1, s2, s3, s4, s5, s6, s7⟩ := S
  have e : ∀ f i : Nat, f ≠ 319 → f ≠ 320 → h' f s.toNat i = h f s.toNat i := fun f i f1 f2 => F.2 f _ i (by omega) (by omega) (fun q => by have := q.1; omega)
  have e2 : ∀ f i : Nat, f ≠ 319 → f ≠ 320 → h' f (h 317 s.toNat 0).toNat i = h f (h 317 s.toNat 0).toNat i := fun f i f1 f2 => F.2 f _ i (by omega) (by omega) (fun q => by have := q.1; omega)
  have ht := F.1
  unfold StrC
  rw [e 0 0 (by decide) (by decide), e 318 0 (by decide) (by decide), e 317 0 (by decide) (by decide), e2 0 0 (by decide) (by decide), e2 1 0 (by decide) (by decide)]
  exact ⟨⟨s1.1, by omega⟩, s2, s3, ⟨s4.1, by omega⟩, s5, s6, fun i hi => by rw [e2 8 i (by decide) (by decide)]; exact s7 i hi⟩
theorem sidx_rg {k : Nat} {c : Nat → Int} {m : Int} : ∀ {t : List (Int × List Int × Int)}, t.all (fun q => decide (0 ≤ q.2.2) && decide (q.2.2 < m)) = true → sidx t k c = -1 ∨ (0 ≤ sidx t k c ∧ sidx t k c < m)
  | [], _ => Or.inl rfl
  | q :: t, h => by
    rw [List.all_cons, Bool.and_eq_true, Bool.and_eq_true, decide_eq_true_eq, decide_eq_true_eq] at h
    unfold sidx
    by_cases z : eqL k c q.2.1 = true
    · rw [if_pos z]; exact Or.inr h.1
    · rw [if_neg z]; exact sidx_rg h.2
section ISNAME
variable (d : Nat) {h : fi_H}
theorem kA_f563 (H : Hp h) {x : Int} (hx : x = -1 ∨ (0 ≤ x ∧ x < 24)) : c_180_563 d x h = some (.inl (some (4, if x = -1 then 0 else 30 + x)), h) := by
  rw [e_180_563 d x H.1]
  by_cases q0 : x = 0; (rw [if_pos q0, e_180_676 d H.1, q0]; rfl)
  rw [if_neg q0]
  by_cases q1 : x = 1; (rw [if_pos q1, e_180_680 d H.1, q1]; rfl)
  rw [if_neg q1]
  by_cases q2 : x = 2; (rw [if_pos q2, e_180_684 d H.1, q2]; rfl)
  rw [if_neg q2]
  by_cases q3 : x = 3; (rw [if_pos q3, e_180_688 d H.1, q3]; rfl)
  rw [if_neg q3]
  by_cases q4 : x = 4; (rw [if_pos q4, e_180_692 d H.1, q4]; rfl)
  rw [if_neg q4]
  by_cases q5 : x = 5; (rw [if_pos q5, e_180_696 d H.1, q5]; rfl)
  rw [if_neg q5]
  by_cases q6 : x = 6; (rw [if_pos q6, e_180_700 d H.1, q6]; rfl)
  rw [if_neg q6]
  by_cases q7 : x = 7; (rw [if_pos q7, e_180_704 d H.1, q7]; rfl)
  rw [if_neg q7]
  by_cases q8 : x = 8; (rw [if_pos q8, e_180_708 d H.1, q8]; rfl)
  rw [if_neg q8]
  by_cases q9 : x = 9; (rw [if_pos q9, e_180_712 d H.1, q9]; rfl)
  rw [if_neg q9]
  by_cases q10 : x = 10; (rw [if_pos q10, e_180_716 d H.1, q10]; rfl)
  rw [if_neg q10]
  by_cases q11 : x = 11; (rw [if_pos q11, e_180_720 d H.1, q11]; rfl)
  rw [if_neg q11]
  by_cases q12 : x = 12; (rw [if_pos q12, e_180_724 d H.1, q12]; rfl)
  rw [if_neg q12]
  by_cases q13 : x = 13; (rw [if_pos q13, e_180_728 d H.1, q13]; rfl)
  rw [if_neg q13]
  by_cases q14 : x = 14; (rw [if_pos q14, e_180_732 d H.1, q14]; rfl)
  rw [if_neg q14]
  by_cases q15 : x = 15; (rw [if_pos q15, e_180_736 d H.1, q15]; rfl)
  rw [if_neg q15]
  by_cases q16 : x = 16; (rw [if_pos q16, e_180_740 d H.1, q16]; rfl)
  rw [if_neg q16]
  by_cases q17 : x = 17; (rw [if_pos q17, e_180_744 d H.1, q17]; rfl)
  rw [if_neg q17]
  by_cases q18 : x = 18; (rw [if_pos q18, e_180_748 d H.1, q18]; rfl)
  rw [if_neg q18]
  by_cases q19 : x = 19; (rw [if_pos q19, e_180_752 d H.1, q19]; rfl)
  rw [if_neg q19]
  by_cases q20 : x = 20; (rw [if_pos q20, e_180_756 d H.1, q20]; rfl)
  rw [if_neg q20]
  by_cases q21 : x = 21; (rw [if_pos q21, e_180_760 d H.1, q21]; rfl)
  rw [if_neg q21]
  by_cases q22 : x = 22; (rw [if_pos q22, e_180_764 d H.1, q22]; rfl)
  rw [if_neg q22]
  by_cases q23 : x = 23; (rw [if_pos q23, e_180_768 d H.1, q23]; rfl)
  rw [if_neg q23]
  rw [e_180_772 d H.1, if_pos (by omega)]
theorem kA_told {s : Int} {k : Nat} {c : Nat → Int} (H : Hp h) (S : StrC h s k c) (Q : StrH h s k c) (hs : 302 < s) (hc : ∀ i, i < k → 0 ≤ c i ∧ c i < 128) :
    ∃ h', fj_run (d + 6) 180 h [(4, s)] = some (.inl (some (4, if sidx tb_180 k c = -1 then 0 else 30 + sidx tb_180 k c)), h') ∧ Hp h' ∧ Fr (whs s) h h' ∧ StrH h' s k c := by
  obtain ⟨h', e1, H1, F1, Q1⟩ := kS_hash d H S Q hs hc
  refine ⟨h', ?_, H1, F1, Q1⟩
  rw [m_180 (d + 5) s H.1, S.2.1, show fi_vt 215 131 = some 169 from rfl, dv_s, e1, ca_ret, sw_180 (d + 2) H1 (S.hs F1)]
  exact kA_f563 (d + 5) H1 (sidx_rg (by decide +kernel))
theorem kA_f1579 (H : Hp h) {x1 x : Int} (hx : 0 ≤ x ∧ x < 66) : c_168_1579 d x1 x h = some (.inl (some (0, 1)), h) := by
  rw [e_168_1579 d x1 x H.1]
  by_cases q0 : x = 0; (rw [if_pos q0])
  rw [if_neg q0]
  by_cases q1 : x = 1; (rw [if_pos q1])
  rw [if_neg q1]
  by_cases q2 : x = 2; (rw [if_pos q2])
  rw [if_neg q2]
  by_cases q3 : x = 3; (rw [if_pos q3])
  rw [if_neg q3]
  by_cases q4 : x = 4; (rw [if_pos q4])
  rw [if_neg q4]
  by_cases q5 : x = 5; (rw [if_pos q5])
  rw [if_neg q5]
  by_cases q6 : x = 6; (rw [if_pos q6])
  rw [if_neg q6]
  by_cases q7 : x = 7; (rw [if_pos q7])
  rw [if_neg q7]
  by_cases q8 : x = 8; (rw [if_pos q8])
  rw [if_neg q8]
  by_cases q9 : x = 9; (rw [if_pos q9])
  rw [if_neg q9]
  by_cases q10 : x = 10; (rw [if_pos q10])
  rw [if_neg q10]
  by_cases q11 : x = 11; (rw [if_pos q11])
  rw [if_neg q11]
  by_cases q12 : x = 12; (rw [if_pos q12])
  rw [if_neg q12]
  by_cases q13 : x = 13; (rw [if_pos q13])
  rw [if_neg q13]
  by_cases q14 : x = 14; (rw [if_pos q14])
  rw [if_neg q14]
  by_cases q15 : x = 15; (rw [if_pos q15])
  rw [if_neg q15]
  by_cases q16 : x = 16; (rw [if_pos q16])
  rw [if_neg q16]
  by_cases q17 : x = 17; (rw [if_pos q17])
  rw [if_neg q17]
  by_cases q18 : x = 18; (rw [if_pos q18])
  rw [if_neg q18]
  by_cases q19 : x = 19; (rw [if_pos q19])
  rw [if_neg q19]
  by_cases q20 : x = 20; (rw [if_pos q20])
  rw [if_neg q20]
  by_cases q21 : x = 21; (rw [if_pos q21])
  rw [if_neg q21]
  by_cases q22 : x = 22; (rw [if_pos q22])
  rw [if_neg q22]
  by_cases q23 : x = 23; (rw [if_pos q23])
  rw [if_neg q23]
  by_cases q24 : x = 24; (rw [if_pos q24])
  rw [if_neg q24]
  by_cases q25 : x = 25; (rw [if_pos q25])
  rw [if_neg q25]
  by_cases q26 : x = 26; (rw [if_pos q26])
  rw [if_neg q26]
  by_cases q27 : x = 27; (rw [if_pos q27])
  rw [if_neg q27]
  by_cases q28 : x = 28; (rw [if_pos q28])
  rw [if_neg q28]
  by_cases q29 : x = 29; (rw [if_pos q29])
  rw [if_neg q29]
  by_cases q30 : x = 30; (rw [if_pos q30])
  rw [if_neg q30]
  by_cases q31 : x = 31; (rw [if_pos q31])
  rw [if_neg q31]
  by_cases q32 : x = 32; (rw [if_pos q32])
  rw [if_neg q32]
  by_cases q33 : x = 33; (rw [if_pos q33])
  rw [if_neg q33]
  by_cases q34 : x = 34; (rw [if_pos q34])
  rw [if_neg q34]
  by_cases q35 : x = 35; (rw [if_pos q35])
  rw [if_neg q35]
  by_cases q36 : x = 36; (rw [if_pos q36])
  rw [if_neg q36]
  by_cases q37 : x = 37; (rw [if_pos q37])
  rw [if_neg q37]
  by_cases q38 : x = 38; (rw [if_pos q38])
  rw [if_neg q38]
  by_cases q39 : x = 39; (rw [if_pos q39])
  rw [if_neg q39]
  by_cases q40 : x = 40; (rw [if_pos q40])
  rw [if_neg q40]
  by_cases q41 : x = 41; (rw [if_pos q41])
  rw [if_neg q41]
  by_cases q42 : x = 42; (rw [if_pos q42])
  rw [if_neg q42]
  by_cases q43 : x = 43; (rw [if_pos q43])
  rw [if_neg q43]
  by_cases q44 : x = 44; (rw [if_pos q44])
  rw [if_neg q44]
  by_cases q45 : x = 45; (rw [if_pos q45])
  rw [if_neg q45]
  by_cases q46 : x = 46; (rw [if_pos q46])
  rw [if_neg q46]
  by_cases q47 : x = 47; (rw [if_pos q47])
  rw [if_neg q47]
  by_cases q48 : x = 48; (rw [if_pos q48])
  rw [if_neg q48]
  by_cases q49 : x = 49; (rw [if_pos q49])
  rw [if_neg q49]
  by_cases q50 : x = 50; (rw [if_pos q50])
  rw [if_neg q50]
  by_cases q51 : x = 51; (rw [if_pos q51])
  rw [if_neg q51]
  by_cases q52 : x = 52; (rw [if_pos q52])
  rw [if_neg q52]
  by_cases q53 : x = 53; (rw [if_pos q53])
  rw [if_neg q53]
  by_cases q54 : x = 54; (rw [if_pos q54])
  rw [if_neg q54]
  by_cases q55 : x = 55; (rw [if_pos q55])
  rw [if_neg q55]
  by_cases q56 : x = 56; (rw [if_pos q56])
  rw [if_neg q56]
  by_cases q57 : x = 57; (rw [if_pos q57])
  rw [if_neg q57]
  by_cases q58 : x = 58; (rw [if_pos q58])
  rw [if_neg q58]
  by_cases q59 : x = 59; (rw [if_pos q59])
  rw [if_neg q59]
  by_cases q60 : x = 60; (rw [if_pos q60])
  rw [if_neg q60]
  by_cases q61 : x = 61; (rw [if_pos q61])
  rw [if_neg q61]
  by_cases q62 : x = 62; (rw [if_pos q62])
  rw [if_neg q62]
  by_cases q63 : x = 63; (rw [if_pos q63])
  rw [if_neg q63]
  by_cases q64 : x = 64; (rw [if_pos q64])
  rw [if_neg q64]
  by_cases q65 : x = 65; (rw [if_pos q65])
  rw [if_neg q65]
  exfalso; omega
theorem kA_f1579n (H : Hp h) {x1 : Int} : c_168_1579 d x1 (-1) h = ca_ (fj_run d 180 h [(4, x1)]) 4
      (fun v2 h1 =>
      if v2 = 0 then
        some (.inl (some (0, 0)), h1)
      else
        some (.inl (some (0, 1)), h1))
      (fun q3 h1 => tx_ q3 h1) := by
  rw [e_168_1579 d x1 (-1) H.1, if_neg (by decide), if_neg (by decide), if_neg (by decide), if_neg (by decide), if_neg (by decide), if_neg (by decide), if_neg (by decide), if_neg (by decide), if_neg (by decide), if_neg (by decide), if_neg (by decide), if_neg (by decide), if_neg (by decide), if_neg (by decide), if_neg (by decide), if_neg (by decide), if_neg (by decide), if_neg (by decide), if_neg (by decide), if_neg (by decide), if_neg (by decide), if_neg (by decide), if_neg (by decide), if_neg (by decide), if_neg (by decide), if_neg (by decide), if_neg (by decide), if_neg (by decide), if_neg (by decide), if_neg (by decide), if_neg (by decide), if_neg (by decide), if_neg (by decide), if_neg (by decide), if_neg (by decide), if_neg (by decide), if_neg (by decide), if_neg (by decide), if_neg (by decide), if_neg (by decide), if_neg (by decide), if_neg (by decide), if_neg (by decide), if_neg (by decide), if_neg (by decide), if_neg (by decide), if_neg (by decide), if_neg (by decide), if_neg (by decide), if_neg (by decide), if_neg (by decide), if_neg (by decide), if_neg (by decide), if_neg (by decide), if_neg (by decide), if_neg (by decide), if_neg (by decide), if_neg (by decide), if_neg (by decide), if_neg (by decide), if_neg (by decide), if_neg (by decide), if_neg (by decide), if_neg (by decide), if_neg (by decide), if_neg (by decide)]
/-- the words that are no names: the model's -/
theorem res_all : (WL.all (fun w => decide (sidx tb_168 w.length (fun i => w.getD i 0) ≠ -1) || decide (sidx tb_180 w.length (fun i => w.getD i 0) ≠ -1)) && (tb_168.all (fun q => WL.contains q.2.1) && tb_180.all (fun q => WL.contains q.2.1))) = true := by decide +kernel
theorem sidx_eq {k k' : Nat} {c c' : Nat → Int} (hk : k = k') (q : ∀ i, i < k → c i = c' i) : ∀ t, sidx t k c = sidx t k' c'
  | [] => rfl
  | r :: t => by
    have : eqL k c r.2.1 = eqL k' c' r.2.1 := by
      subst hk
      rw [Bool.eq_iff_iff]
      unfold eqL
      rw [eqS_iff, eqS_iff]
      constructor
      · rintro ⟨a, b⟩; exact ⟨a, fun i hi => by rw [← q i hi]; exact b i hi⟩
      · rintro ⟨a, b⟩; exact ⟨a, fun i hi => by rw [q i hi]; exact b i hi⟩
    unfold sidx
    rw [this, sidx_eq hk q t]
theorem sidx_no {k : Nat} {c : Nat → Int} : ∀ {t : List (Int × List Int × Int)}, t.all (fun q => decide (0 ≤ q.2.2)) = true → (sidx t k c = -1 ↔ ∀ q ∈ t, ¬ eqL k c q.2.1 = true)
  | [], _ => ⟨fun _ q hq => (by cases hq), fun _ => rfl⟩
  | r :: t, h => by
    rw [List.all_cons, Bool.and_eq_true, decide_eq_true_eq] at h
    unfold sidx
    by_cases z : eqL k c r.2.1 = true
    · rw [if_pos z]
      constructor
      · intro y; omega
      · intro y; exact absurd z (y r (by simp))
    · rw [if_neg z, sidx_no h.2]
      constructor
      · intro y q hq
        rcases List.mem_cons.mp hq with rfl | hq
        · exact z
        · exact y q hq
      · intro y q hq; exact y q (by simp [hq])
theorem res_iff {k : Nat} {c : Nat → Int} : (sidx tb_168 k c = -1 ∧ sidx tb_180 k c = -1) ↔ kwd k c = -1 := by
  have A := res_all
  rw [Bool.and_eq_true, Bool.and_eq_true] at A
  obtain ⟨a1, a2, a3⟩ := A
  unfold kwd
  constructor
  · rintro ⟨x1, x2⟩
    rcases kwf_sp (k := k) (c := c) WL 0 with ⟨j, h1, h2, h3⟩ | ⟨h1, -⟩
    · exfalso
      have hm : WL.getD j [] ∈ WL := by
        rw [List.getD_eq_getElem?_getD, List.getElem?_eq_getElem h1]
        exact List.getElem_mem _
      have := List.all_eq_true.mp a1 _ hm
      obtain ⟨e1, e2⟩ := eqS_iff.mp h3
      rw [← sidx_eq e1 e2 tb_168, ← sidx_eq e1 e2 tb_180, x1, x2] at this
      simp at this
    · exact h1
  · intro y
    rcases kwf_sp (k := k) (c := c) WL 0 with ⟨j, h1, h2, h3⟩ | ⟨-, h2⟩
    · omega
    · refine ⟨(sidx_no (by decide +kernel)).mpr (fun q hq z => h2 _ ?_ z), (sidx_no (by decide +kernel)).mpr (fun q hq z => h2 _ ?_ z)⟩
      · exact List.contains_iff_mem.mp (List.all_eq_true.mp a2 q hq)
      · exact List.contains_iff_mem.mp (List.all_eq_true.mp a3 q hq)
end ISNAME
section ISNAME2
variable {u : Nat → Int} {n M i : Nat} {a b : fi_H} {dA dB : Nat}
theorem Lx.hash {a' : fi_H} (H : Hp a) (q : Lx u n M a) {s : Int} (hs : 714 < s) {k : Nat} {c : Nat → Int} (S : StrC a s k c) (F : Fr (whs s) a a') (Q : StrH a' s k c) : Lx u n M a' := by
  obtain ⟨q1, q2, q3, q4, q5, kb, cb, q6⟩ := q
  have ht := H.1.2.2.1
  have e : ∀ f x i : Nat, f ≠ 319 → f ≠ 320 → 0 < x → (x : Int) ≤ a 2 0 0 → a' f x i = a f x i := fun f x i f1 f2 x1 x2 => F.2 f x i x1 x2 (fun y => by have := y.1; omega)
  refine ⟨fun j hj => ?_, fun j hj h2' => ?_, q3, q4, q5, kb, cb, ?_⟩
  · obtain ⟨r1, r2⟩ := q1 j hj
    obtain ⟨s1, s2, s3, s4, s5, s6⟩ := r1
    refine ⟨?_, by rw [e 9 379 j (by decide) (by decide) (by decide) (by omega)]; exact r2⟩
    unfold RowT
    rw [e 8 378 j (by decide) (by decide) (by decide) (by omega), e 10 380 j (by decide) (by decide) (by decide) (by omega), e 11 381 j (by decide) (by decide) (by decide) (by omega), e 5 382 j (by decide) (by decide) (by decide) (by omega), e 12 383 j (by decide) (by decide) (by decide) (by omega)]
    refine ⟨s1, s2, s3, s4, s5, fun z => ?_⟩
    obtain ⟨t1, t2, t3, t4⟩ := s6 z
    have g := t1.1
    refine ⟨t1.hs F, t2, ?_, ?_⟩
    · rw [e 317 _ 0 (by decide) (by decide) (by omega) (by omega)]; exact t3
    · rw [e 317 _ 0 (by decide) (by decide) (by omega) (by omega), e 145 384 0 (by decide) (by decide) (by decide) (by omega)]; exact t4
  · obtain ⟨r1, r2⟩ := q1 j hj
    have S2 := (r1.2.2.2.2.2 h2').1
    rw [e 12 383 j (by decide) (by decide) (by decide) (by omega)]
    by_cases z : a 12 383 j = s
    · rw [z] at S2 ⊢
      have hk : k = (tok u n (pl u n j)).2.1 - pl u n j := by have := S.2.2.2.2.2.1; have := S2.2.2.2.2.2.1; omega
      have he : hsh c k = hsh (fun i => u (pl u n j + i)) ((tok u n (pl u n j)).2.1 - pl u n j) := hsh_eq hk (fun i hi => (S.2.2.2.2.2.2 i hi).symm.trans (S2.2.2.2.2.2.2 i (by omega)))
      unfold StrH at Q ⊢
      rw [← he]; exact Q
    · refine (q2 j hj h2').st F S2.1 (fun f y => z ?_)
      have := y.2
      have := S2.1
      omega
  · obtain ⟨b1, b2, b3, b4, b5, b6, b7, b8⟩ := q6
    unfold Bd
    rw [e 145 384 0 (by decide) (by decide) (by decide) (by omega), e 146 384 0 (by decide) (by decide) (by decide) (by omega), e 148 384 0 (by decide) (by decide) (by decide) (by omega), e 0 _ 0 (by decide) (by decide) (by omega) (by omega), e 1 _ 0 (by decide) (by decide) (by omega) (by omega)]
    exact ⟨⟨b1.1, Int.le_trans b1.2 F.1⟩, b2, b3, b4, b5, b6, b7, fun i hi => by rw [e 8 _ i (by decide) (by decide) (by omega) (by omega)]; exact b8 i hi⟩
/-- the token's word is hashed, nothing else -/
theorem PS.hash {a' : fi_H} (q : PS u n M i a b) {j : Nat} (hj : j < M) (hk : tk u n j = 2) (HA : Hp a') (F : Fr (whs (a 12 383 j)) a a') (Q : StrH a' (a 12 383 j) (lw u n j) (cw u n j)) : PS u n M i a' b ∧ Fr wTA a a' := by
  obtain ⟨q1, q2, q3, q4, q5, q6, q7, q8⟩ := q
  have S := (q3.1 j hj).1.2.2.2.2.2 hk
  have ht := q1.1.2.2.1
  have FT : Fr wTA a a' := F.mono (fun f x _ y => by have := y.1; simp only [wTA]; omega)
  refine ⟨⟨HA, q2, q3.hash q1 S.2.1 S.1 F Q, ?_, q5, q6, q7, ?_⟩, FT⟩
  · rw [F.2 158 377 0 (by decide) (by omega) (by omega)]; exact q4
  · rw [F.2 159 377 0 (by decide) (by omega) (by omega)]; exact q8
/-- the letters of a word -/
theorem cw_rg (hu : ∀ k, n ≤ k → u k = 0) (h : tk u n i = 2) : ∀ j : Nat, j < lw u n i → 1 ≤ u (pl u n i + j) ∧ u (pl u n i + j) < 128 ∧ xw (u (pl u n i + j)) := by
  have hp := pl_le hu i
  unfold tk at h
  unfold lw
  generalize pl u n i = p at *
  unfold tok at h ⊢
  split at h
  · simp at h
  · rename_i z0
    rw [if_neg z0]
    split at h
    · rename_i z1
      rw [if_pos z1]
      obtain ⟨w1, w2, w3, w4⟩ := we_ok (u := u) (n := n) (n - p) p (by omega)
      intro j hj
      have := w3 (p + j) (by omega) (by have : j < we u n p - p := hj; omega)
      refine ⟨?_, ?_, this⟩ <;> rcases this with y | y | y <;> omega
    · split at h
      · split at h
        · simp at h
        · split at h
          · simp at h
          · split at h <;> simp at h
      · split at h
        · split at h <;> simp at h
        · split at h <;> simp at h
theorem t_isName (q : PS u n M i a b) (hA : 9 ≤ dA) : ∃ a', fj_run dA 167 a [(4, 377)] = some (.inl (some (0, if tk u n i = 2 ∧ kw u n i = -1 then 1 else 0)), a') ∧ PS u n M i a' b ∧ Fr wTA a a' := by
  obtain ⟨d, rfl⟩ : ∃ e, dA = e + 9 := ⟨dA - 9, by omega⟩
  have hi := q.2.2.2.2.1
  rw [m_167 (d + 8) q.ha.1, q.at, if_pos (by omega), Int.toNat_natCast, q.sort]
  by_cases z : tk u n i = 2
  · have S := q.row.1.2.2.2.2.2 z
    have Q := q.2.2.1.2.1 i hi.1 z
    have hc := cw_rg (u := u) (n := n) (i := i) q.2.1.2.2.2.2.1 z
    obtain ⟨a1, e1, H1, F1, Q1⟩ := kS_hash (d + 2) q.ha S.1 Q (by have := S.2.1; omega) (fun j hj => ⟨by have := (hc j hj).1; show 0 ≤ u (pl u n i + j); omega, (hc j hj).2.1⟩)
    obtain ⟨P1, T1⟩ := q.hash hi.1 z H1 F1 Q1
    have S1 := S.1.hs F1
    rw [if_pos (by omega), m_168 (d + 7) _ q.ha.1, S.1.2.1, show fi_vt 215 131 = some 169 from rfl, dv_s, e1, ca_ret, sw_168 (d + 4) H1 S1]
    rcases sidx_rg (k := (tok u n (pl u n i)).2.1 - pl u n i) (c := fun j => u (pl u n i + j)) (m := 66) (t := tb_168) (by decide +kernel) with y | y
    · rw [y, kA_f1579n (d + 7) H1]
      obtain ⟨a2, e2, H2, F2, Q2⟩ := kA_told (d + 1) H1 S1 Q1 (by have := S.2.1; omega) (fun j hj => ⟨by have := (hc j hj).1; show 0 ≤ u (pl u n i + j); omega, (hc j hj).2.1⟩)
      have row1 : a1 12 383 i = a 12 383 i := F1.2 12 383 i (by decide) (by have := q.ha.1.2.2.1; omega) (by omega)
      obtain ⟨P2, T2⟩ := P1.hash hi.1 z H2 (by rw [row1]; exact F2) (by rw [row1]; exact Q2)
      refine ⟨a2, ?_, P2, T1.tr T2⟩
      rw [e2, ca_ret]
      have r := res_iff (k := lw u n i) (c := cw u n i)
      by_cases w : sidx tb_180 (lw u n i) (cw u n i) = -1
      · have w' : sidx tb_180 ((tok u n (pl u n i)).2.1 - pl u n i) (fun j => u (pl u n i + j)) = -1 := w
        rw [w', if_pos rfl, if_pos rfl, ca_ret, if_pos rfl, if_pos ⟨z, r.mp ⟨y, w⟩⟩]
      · have w' : ¬ sidx tb_180 ((tok u n (pl u n i)).2.1 - pl u n i) (fun j => u (pl u n i + j)) = -1 := w
        have w2 := sidx_rg (k := (tok u n (pl u n i)).2.1 - pl u n i) (c := fun j => u (pl u n i + j)) (m := 24) (t := tb_180) (by decide +kernel)
        rw [if_neg w', if_neg (by omega), ca_ret, if_neg (by decide), if_neg (fun x => w (r.mpr x.2).2)]
    · rw [kA_f1579 (d + 7) H1 y, ca_ret, if_neg (by decide)]
      refine ⟨a1, ?_, P1, T1⟩
      rw [if_neg (fun x => ?_)]
      have := (res_iff.mpr x.2).1
      have e : sidx tb_168 ((tok u n (pl u n i)).2.1 - pl u n i) (fun j => u (pl u n i + j)) = -1 := this
      omega
  · rw [if_neg (by omega)]
    exact ⟨a, by rw [if_neg (fun x => z x.1)], q, Fr.rf _ _⟩
end ISNAME2
end
