section
/-! reading: holidays, the loop -/
set_option maxRecDepth 100000
section HOL5
variable {u : Nat → Int} {n M : Nat} {a0 b0 : fi_H} {dA dB w : Nat}
/-- what both have read as the tape ends -/
abbrev HolP (w : Nat) (a0 b0 : fi_H) : Int → fi_H → Int → fi_H → Prop := fun x a' _ b' => ∃ k' : Nat, k' ≤ 20 ∧ x = (k' : Int) ∧ a' 211 303 0 = (w : Int) ∧ b' 390 602 0 = (k' : Int) ∧ (∀ j : Nat, j < k' → HolO a' (a' 12 w j) (b' 10 604 j) (b' 10 605 j) (b' 10 606 j)) ∧ Fr (wHA w) a0 a' ∧ Fr wHBe b0 b' ∧ b' 402 602 0 = 0 ∧ b' 403 602 0 = -1 ∧ ∃ kk cc, Bd a' kk cc
def HolE (w : Nat) (a0 b0 a' b' : fi_H) : Prop := Wr a' b' ∧ HE w a0 b0 a' b'
theorem t_hole {i k : Nat} {a b : fi_H} (q : PS u n M i a b) (hw : w = 307 ∨ w = 308) (hk : k ≤ 20) (R : HRw w k a b) (V : HE w a0 b0 a b) (h211 : a 211 303 0 = (w : Int)) :
    Bo 304 0 9 (some (.inl (some (0, (k : Int))), a)) (lt_ (fi_upd b 390 602 0 (k : Int)) fun h1 => c_522_435 dB (k : Int) 0 h1) (HolP w a0 b0) (HolE w a0 b0) := by
  have ta := q.ha.1.2.2.1
  have tb := q.hb.1.2.2.1
  have H1 : Hp (fi_upd b 390 602 0 (k : Int)) := Hp.uI q.hb 0 (by decide) (by decide) (by omega)
  have F1 : Fr wHBe b (fi_upd b 390 602 0 (k : Int)) := Fr.u 0 _ (Fr.rf _ _) (by decide) (Or.inr (Or.inr ⟨rfl, rfl⟩))
  have v1 : fi_upd b 390 602 0 (k : Int) 390 602 0 = (k : Int) := fi_upd_same _ _ _ _ _
  have v2 : ∀ f x i : Nat, f ≠ 390 → fi_upd b 390 602 0 (k : Int) f x i = b f x i := fun f x i hf => fi_upd_ne _ _ _ _ _ (by omega)
  rw [lt_eq]
  generalize fi_upd b 390 602 0 (k : Int) = b1 at *
  obtain ⟨b2, e1, H2, F2, c2⟩ := kB_copy (d := dB) hk k 0 b1 H1 (by omega)
  rw [show c_522_435 dB (k : Int) 0 b1 = some (.inl none, b2) from e1]
  have tb1 := H1.1.2.2.1
  have o : ∀ f, b2 f 602 0 = b1 f 602 0 := fun f => F2.2 f 602 0 (by decide) (by omega) (by omega)
  refine Bo.retv (by decide) q.ha H2 ⟨k, hk, rfl, h211, by rw [o]; exact v1, fun j hj => ?_, V.1, ((V.2.mono (fun f x i z => z.elim Or.inl (fun z => Or.inr (Or.inl ⟨z.1, z.2.1⟩)))).tr F1).tr (F2.mono (fun f x i z => Or.inr (Or.inl ⟨z.1, z.2.1⟩))), by rw [o, v2 402 602 0 (by decide)]; exact q.flt.1, by rw [o, v2 403 602 0 (by decide)]; exact q.flt.2, q.bd⟩
  rw [c2 j 604 (by omega) hj (by decide) (by decide), c2 j 605 (by omega) hj (by decide) (by decide), c2 j 606 (by omega) hj (by decide) (by decide), v2 10 604 _ (by decide), v2 10 605 _ (by decide), v2 10 606 _ (by decide)]
  exact R j hj
/-- a day of a month -/
theorem t_holf {i k : Nat} {a b : fi_H} (hw : w = 307 ∨ w = 308) (hA : 12 ≤ dA) (hB : 18 ≤ dB) (q : PS u n M i a b) (z3 : tk u n i = 3) (hk : k < 20) (R : HRw w k a b) (V : HE w a0 b0 a b) (h211 : a 211 303 0 = (w : Int))
    (ih : ∀ (j : Nat) a' b', i < j → PS u n M j a' b' → a' 211 303 0 = (w : Int) → HRw w (k + 1) a' b' → HE w a0 b0 a' b' → Bo 304 0 9 (c_198_2 dA ((k + 1 : Nat) : Int) a') (c_522_2 dB ((k + 1 : Nat) : Int) b') (HolP w a0 b0) (HolE w a0 b0)) :
    Bo 304 0 9 (ca_ (fj_run dA 199 a [(4, 377)]) 4 (fun v h => c_198_151 dA (k : Int) (a 211 303 0) (k : Int) v h) (fun q h => tx_ q h)) (c_522_102 dB (k : Int) 602 1 b) (HolP w a0 b0) (HolE w a0 b0) := by
  have hE : ∀ a' b', Wr a' b' → HE w a0 b0 a' b' → HolE w a0 b0 a' b' := fun _ _ h1 h2 => ⟨h1, h2⟩
  obtain ⟨d, rfl⟩ : ∃ e, dA = e + 1 := ⟨dA - 1, by omega⟩
  have hi := q.2.2.2.2.1
  have sB := t_sortB q
  rw [if_neg (by omega), if_neg (by omega), if_neg (by omega), z3] at sB
  have w21 : wI (21 + (k : Int)) = ((21 + k : Nat) : Int) := by rw [wI_id (by omega) (by omega)]; omega
  have sB3 : b 394 602 0 = 3 := sB
  rw [e_522_102 dB _ _ _ q.hb.1, nb1 q (by omega), if_pos sB3, w21, if_pos (by omega), lt_eq, Int.toNat_natCast, m_199 d q.ha.1, ca_ca]
  have H1 : Hp (fi_upd b 10 604 (21 + k) 0) := Hp.uI q.hb _ (by decide) (by decide) (by omega)
  have F1 : Fr (fun f x i => 604 ≤ x ∧ x ≤ 606 ∧ i = 21 + k) b (fi_upd b 10 604 (21 + k) 0) := Fr.u _ _ (Fr.rf _ _) (by decide) ⟨by decide, by decide, rfl⟩
  have v1 : fi_upd b 10 604 (21 + k) 0 10 604 (21 + k) = 0 := fi_upd_same _ _ _ _ _
  have P1 := q.bw H1 F1 (fun f x i z => by omega)
  have V1 : HE w a0 b0 a (fi_upd b 10 604 (21 + k) 0) := V.tr ⟨Fr.rf _ _, F1.mono (fun f x i z => Or.inr ⟨z.1, z.2.1, by omega⟩)⟩
  have R1 : HRw w k a (fi_upd b 10 604 (21 + k) 0) := R.f hw q.ha q.hb (Fr.rf (fun _ _ _ => False) _) F1 (fun _ _ _ _ _ _ => id) (fun _ _ => id) (fun x j _ _ hj => by omega)
  generalize fi_upd b 10 604 (21 + k) 0 = b1 at *
  refine Bo.caca (t_number P1 (by omega) (by omega) (by omega) (by omega)) (by decide) (by decide) (fun x a2 y b2 HA2 HB2 z => ?_) (fun a2 b2 HA2 HB2 z => Bo.tx HA2 HB2 (hE _ _ z.1 (V1.tr (HE.t z.2))))
  obtain ⟨rfl, hx, P2, T2, -, -⟩ := z
  have V2 := V1.tr (HE.t (w := w) T2)
  have ta := P1.ha.1.2.2.1
  have tb := P1.hb.1.2.2.1
  have R2 : HRw w k a2 b2 := R1.f hw P1.ha P1.hb T2.1 T2.2 (fun f x i h1 _ hf => by simp only [wTA]; omega) (fun j _ => by simp only [wTA]; omega) (fun x j h1 h2 _ => by simp only [wTB]; omega)
  have h211' : a2 211 303 0 = (w : Int) := by rw [T2.1.2 211 303 0 (by decide) (by omega) (by simp only [wTA]; omega)]; exact h211
  have y1 : b2 10 604 (21 + k) = 0 := by rw [T2.2.2 10 604 _ (by decide) (by omega) (by simp only [wTB]; omega)]; exact v1
  have hi2 := P2.2.2.2.2.1
  have H3 : Hp (fi_upd b2 10 605 (21 + k) x) := Hp.uI P2.hb _ (by decide) (by decide) (by omega)
  have F3 : Fr (fun f x i => 604 ≤ x ∧ x ≤ 606 ∧ i = 21 + k) b2 (fi_upd b2 10 605 (21 + k) x) := Fr.u _ _ (Fr.rf _ _) (by decide) ⟨by decide, by decide, rfl⟩
  have P3 := P2.bw H3 F3 (fun f x i z => by omega)
  have V3 : HE w a0 b0 a2 (fi_upd b2 10 605 (21 + k) x) := V2.tr ⟨Fr.rf _ _, F3.mono (fun f x i z => Or.inr ⟨z.1, z.2.1, by omega⟩)⟩
  have R3 : HRw w k a2 (fi_upd b2 10 605 (21 + k) x) := R2.f hw P2.ha P2.hb (Fr.rf (fun _ _ _ => False) _) F3 (fun _ _ _ _ _ _ => id) (fun _ _ => id) (fun x j _ _ hj => by omega)
  have y2 : fi_upd b2 10 605 (21 + k) x 10 605 (21 + k) = x := fi_upd_same _ _ _ _ _
  have y3 : fi_upd b2 10 605 (21 + k) x 10 604 (21 + k) = 0 := by rw [fi_upd_ne _ _ _ _ _ (by omega)]; exact y1
  rw [wI_id (x := x) (by omega) (by omega), lt_eq, P2.at, if_pos (by omega), Int.toNat_natCast, P2.sort, h211]
  generalize fi_upd b2 10 605 (21 + k) x = b3 at *
  have sB3 := t_sortB P3
  have tr3 := tk_rg (u := u) (n := n) (i + 1)
  -- the new object, ahead of the month's number
  have N := NW.new P3.ha 108 2 (by decide)
  have eC : c_199_66 d x a2 = ca_ (fj_run d 188 (fi_new a2 108 2 0) [(4, 377), (0, 1), (0, 12)]) 0 (fun v4 h3 => cv_ (fj_run d 200 h3 [(4, a2 2 0 0 + 1), (0, x), (0, v4)]) (fun h6 => some (.inl (some (4, a2 2 0 0 + 1)), h6)) (fun q h => tx_ q h)) (fun q h => tx_ q h) := by rw [e_199_66 d x P2.ha.1]; rfl
  have P4 := P3.an N.hp (N.fr _)
  have V4 : HE w a0 b0 (fi_new a2 108 2 0) b3 := V3.tr ⟨N.fr _, Fr.rf _ _⟩
  have hcls := N.cl
  have hfld : ∀ f : Nat, 100 ≤ f → fi_new a2 108 2 0 f (a2 2 0 0 + 1).toNat 0 = 0 := fun f hf => N.g hf
  have hr := N.rg
  have l4 : ∀ j, fi_new a2 108 2 0 12 w j = a2 12 w j := fun j => N.o 12 j (by have := P3.ha.1.2.2.1; omega)
  have ht4 := N.2.2.1
  have R4 : HRw w k (fi_new a2 108 2 0) b3 := R3.f hw P3.ha P3.hb (N.fr (fun _ _ _ => False)) (Fr.rf (fun _ _ _ => False) _) (fun _ _ _ _ _ _ => id) (fun _ _ => id) (fun _ _ _ _ _ => id)
  have h211'' : fi_new a2 108 2 0 211 303 0 = (w : Int) := by rw [N.o 211 0 (by have := P3.ha.1.2.2.1; omega)]; exact h211'
  generalize fi_new a2 108 2 0 = a4 at *
  generalize hrr : a2 2 0 0 + 1 = r at *
  have bad : ∀ (c : Int), 0 ≤ c ∧ c < 100 → ∀ K : Int → fi_H → fk_R, fj_run d 188 a4 [(4, 377), (0, 1), (0, 12)] = some (.inr 304, wra a4 c (pl u n (i + 1))) → Bo 304 0 9 (ca_ (c_199_66 d x a2) 4 K (fun q h => tx_ q h)) (some (.inr 603, wrb b3 c (pl u n (i + 1)))) (HolP w a0 b0) (HolE w a0 b0) := fun c hc K e => by
    have hp := P4.ple
    rw [eC, e, ca_thr, tx_304 (wra_hp P4.ha (by omega) (by omega)), ca_thr, tx_304 (wra_hp P4.ha (by omega) (by omega))]
    exact h_wr P4 V4 hE hc
  obtain ⟨d, rfl⟩ : ∃ e, d = e + 1 := ⟨d - 1, by omega⟩
  by_cases c3 : tk u n (i + 1) = 3
  · rw [c3] at sB3
    have sB3' : b3 394 602 0 = 3 := sB3
    obtain ⟨n1, n2⟩ := tok_num (u := u) (n := n) (i := i + 1) P3.2.1.2.2.2.2.1 c3
    have bw : b3 399 602 0 = (tok u n (pl u n (i + 1))).2.2 := (P3.tb.2.2.2.2.2.1 c3).2
    have aw : a2 10 380 (i + 1) = (tok u n (pl u n (i + 1))).2.2 := P3.row.1.2.1 c3
    have e188 : fj_run (d + 1) 188 a4 [(4, 377), (0, 1), (0, 12)] = if 1 ≤ (tok u n (pl u n (i + 1))).2.2 ∧ (tok u n (pl u n (i + 1))).2.2 ≤ 12 then cv_ (fj_run d 166 a4 [(4, 377)]) (fun h => some (.inl (some (0, (tok u n (pl u n (i + 1))).2.2)), h)) (fun q h => tx_ q h) else some (.inr 304, wra a4 3 (pl u n (i + 1))) := by
      obtain ⟨d, rfl⟩ : ∃ e, d = e + 1 := ⟨d - 1, by omega⟩
      rw [m_188 (d + 1) 1 12 P4.ha.1, P4.at, if_pos (by omega), Int.toNat_natCast, P4.sort, if_pos (by omega), P4.row.1.2.1 c3, wI_id (by omega) (by omega), wI_id (by omega) (by omega), wI_id (by omega) (by omega), kA_in d P4.ha.1 (by omega) (by omega) (by omega), ca_ret, ite0, kA_thr P4 (by omega) (by omega)]
    rw [if_pos (by omega : (tk u n (i + 1) : Int) = 3), if_pos sB3', aw, wI_id (by omega) (by omega), e_522_159 dB _ _ _ _ P3.hb.1, nb1 P3 (by omega), bw]
    generalize hN : (tok u n (pl u n (i + 1))).2.2 = N at *
    obtain ⟨e, rfl⟩ : ∃ e', dB = e' + 3 := ⟨dB - 3, by omega⟩
    obtain ⟨d2, rfl⟩ : ∃ e', d = e' + 2 := ⟨d - 2, by omega⟩
    rw [kA_in (d2 + 2) P3.ha.1 (by omega) (by omega) (by omega), ca_ret, ite0, kB_in (e + 2) P3.hb.1 (by omega) (by omega) (by omega), ca_ret, ite0]
    by_cases c4 : 1 ≤ N ∧ N ≤ 12
    · rw [if_pos c4, if_pos c4, P3.at, if_pos (by omega : (0 : Int) ≤ ((i + 1 : Nat) : Int) ∧ ((i + 1 : Nat) : Int) < 1202), Int.toNat_natCast, aw, bw, wI_id (x := N) (by omega) (by omega), if_pos (by omega : (0 : Int) ≤ ((21 + k : Nat) : Int) ∧ ((21 + k : Nat) : Int) < 42), Int.toNat_natCast, y2, kA_len (d2 + 1) P3.ha.1 (by omega) (by omega), ca_ret, kB_len (e + 1) P3.hb.1 (by omega) (by omega), ca_ret]
      by_cases c5 : cN 2000 N < x
      · rw [if_pos c5, if_pos c5, e_522_206 _ _ _ _ P3.hb.1, e_522_207 _ _ _ _ _ P3.hb.1, nb0 P3 (by omega) (by omega), kA_thr P3 (by omega) (by omega), ca_thr, tx_304 (wra_hp P3.ha (by have := P3.ple; omega) (by have := P3.ple; omega))]
        exact h_wr P3 V3 hE (by omega)
      · have H5 : Hp (fi_upd b3 10 606 (21 + k) N) := Hp.uI P3.hb _ (by decide) (by decide) (by omega)
        have F5 : Fr (fun f x i => 604 ≤ x ∧ x ≤ 606 ∧ i = 21 + k) b3 (fi_upd b3 10 606 (21 + k) N) := Fr.u _ _ (Fr.rf _ _) (by decide) ⟨by decide, by decide, rfl⟩
        have P5 := P4.bw H5 F5 (fun f x i z => by omega)
        have V5 : HE w a0 b0 a4 (fi_upd b3 10 606 (21 + k) N) := V4.tr ⟨Fr.rf _ _, F5.mono (fun f x i z => Or.inr ⟨z.1, z.2.1, by omega⟩)⟩
        have R5 : HRw w k a4 (fi_upd b3 10 606 (21 + k) N) := R4.f hw P4.ha P4.hb (Fr.rf (fun _ _ _ => False) _) F5 (fun _ _ _ _ _ _ => id) (fun _ _ => id) (fun x j _ _ hj => by omega)
        have u1 : fi_upd b3 10 606 (21 + k) N 10 606 (21 + k) = N := fi_upd_same _ _ _ _ _
        have u2 : fi_upd b3 10 606 (21 + k) N 10 605 (21 + k) = x := by rw [fi_upd_ne _ _ _ _ _ (by omega)]; exact y2
        have u3 : fi_upd b3 10 606 (21 + k) N 10 604 (21 + k) = 0 := by rw [fi_upd_ne _ _ _ _ _ (by omega)]; exact y3
        rw [if_neg c5, if_neg c5, e_522_207 _ _ _ _ _ P3.hb.1, nb1 P3 (by omega), if_pos (by omega), bw, wI_id (by omega) (by omega), lt_eq, eC, e188, if_pos c4, ca_cv, ca_cv, Int.toNat_natCast]
        generalize fi_upd b3 10 606 (21 + k) N = b5 at *
        refine Bo.cvcv (t_take P5 (by omega) (by omega) ⟨by omega, by omega⟩) (fun _ a6 _ b6 HA6 HB6 z => ?_) (fun a6 b6 HA6 HB6 z => Bo.tx HA6 HB6 (hE _ _ z.1 (V5.tr (HE.t z.2))))
        obtain ⟨P6, T6, -⟩ := z
        have ta5 := P5.ha.1.2.2.1
        have tb5 := P5.hb.1.2.2.1
        have V6 := V5.tr (HE.t (w := w) T6)
        have R6 : HRw w k a6 b6 := R5.f hw P5.ha P5.hb T6.1 T6.2 (fun f x i h1 _ hf => by simp only [wTA]; omega) (fun j _ => by simp only [wTA]; omega) (fun x j h1 h2 _ => by simp only [wTB]; omega)
        have g : ∀ f, f ≠ 319 → f ≠ 320 → a6 f r.toNat 0 = a4 f r.toNat 0 := fun f h1 h2 => T6.1.2 f _ 0 (by omega) (by omega) (by simp only [wTA]; omega)
        have t6 := T6.1.1
        obtain ⟨a7, e7, H7, F7, x7, y7⟩ := kA_fix (d := d2 + 1) (r := r) (x := x) (y := N) P6.ha (by omega) (by rw [g 0 (by decide) (by decide)]; exact hcls) (by rw [g 331 (by decide) (by decide)]; exact hfld 331 (by decide)) (by rw [g 332 (by decide) (by decide)]; exact hfld 332 (by decide)) (by omega) (by omega)
        have c7 : a6 0 r.toNat 0 = 108 := by rw [g 0 (by decide) (by decide)]; exact hcls
        have P7 := P6.ro (r := r) (c := 108) (by omega) c7 (by decide) (by decide) H7 F7
        have V7 : HE w a0 b0 a7 b6 := ⟨V6.1.on F7 (fun f x i h1 h2 z => by have := V3.1.1; omega), V6.2⟩
        have ta6 := P6.ha.1.2.2.1
        have R7 : HRw w k a7 b6 := by
          intro j hj
          have q6 := R6 j hj
          have hne : a6 12 w j ≠ r := by
            rw [T6.1.2 12 w j (by omega) (by omega) (by simp only [wTA]; omega)]
            have := (R3 j hj).1
            have h5 := l4 j
            omega
          rw [F7.2 12 w j (by omega) (by omega) (by omega)]
          have O := q6.1
          refine ⟨⟨O.1, by have := F7.1; omega⟩, ?_⟩
          have e : ∀ f, a7 f (a6 12 w j).toNat 0 = a6 f (a6 12 w j).toNat 0 := fun f => F7.2 f _ 0 (by omega) (by omega) (by omega)
          rw [e 0, e 331, e 332, e 333, e 334, e 335, e 336]
          exact q6.2
        have gb : ∀ y : Nat, 604 ≤ y → y ≤ 606 → b6 10 y (21 + k) = b5 10 y (21 + k) := fun y h1 h2 => T6.2.2 10 y _ (by omega) (by omega) (by simp only [wTB]; omega)
        rw [ca_ret, e7, cv_ret, ca_ret]
        refine t_holt (s := 0) (x := x) (y := N) hw hk (by omega) (by omega) P7 ⟨⟨by omega, by have := F7.1; omega⟩, Or.inl ⟨rfl, by rw [F7.2 0 r.toNat 0 (by omega) (by omega) (by omega)]; exact c7, x7, y7⟩⟩ (by rw [gb 604 (by decide) (by decide)]; exact u3) (by rw [gb 605 (by decide) (by decide)]; exact u2) (by rw [gb 606 (by decide) (by decide)]; exact u1) R7 V7 ?_ hE (fun a' b' p1 p2 p3 p4 => ih _ a' b' (by omega) p1 p2 p3 p4)
        rw [F7.2 211 303 0 (by decide) (by omega) (by omega), T6.1.2 211 303 0 (by decide) (by omega) (by simp only [wTA]; omega)]; exact h211''
    · rw [if_neg c4, if_neg c4, e_522_206 _ _ _ _ P3.hb.1, e_522_207 _ _ _ _ _ P3.hb.1, nb0 P3 (by omega) (by omega)]
      exact bad 3 (by omega) _ (by rw [e188, if_neg c4])
  · have sb : ¬ b3 394 602 0 = 3 := by rw [sB3]; (repeat' split) <;> omega
    rw [if_neg (by omega), if_neg sb, e_522_159 _ _ _ _ _ P3.hb.1, nb0 P3 (by omega) (by omega)]
    refine bad 1 (by omega) _ ?_
    rw [m_188 d 1 12 P4.ha.1, P4.at, if_pos (by omega), Int.toNat_natCast, P4.sort, if_neg (by omega), kA_thr P4 (by omega) (by omega)]
end HOL5
end
