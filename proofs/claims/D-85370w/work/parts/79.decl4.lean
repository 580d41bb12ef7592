section
/-! reading: a declared name's kind, its thing made and filled -/
set_option maxRecDepth 100000
section DECL4
variable {u : Nat → Int} {n M i m m0 : Nat} {a b a0 b0 : fi_H} {dA dB : Nat}
theorem t_made (q : PS u n M i a b) (V : NE m0 a0 b0 a b) (hm0 : m0 ≤ m) (N : NmR a b m) (h1 : 0 ≤ a 160 377 0 ∧ a 215 303 0 + a 160 377 0 = (m : Int)) (h413 : b 413 602 0 = (m : Int) + 1) {j0 : Nat} (hj0 : j0 < M) (hk0 : tk u n j0 = 2) (hA : 8 ≤ dA) (hB : 16 ≤ dB) {x1 x2 : Int} (hx1 : x1 = 0 ∨ x1 = 1) (hx2 : x2 = 0 ∨ x2 = 1) {P : Int → fi_H → Int → fi_H → Prop} {KA : fi_H → fk_R} {BB : Int → fi_H → fk_R}
    (kk : ∀ (a' b' : fi_H) (r κ : Int), PS u n M (i + 1) a' b' → NE m0 a0 b0 a' b' → NmR a' b' m → (0 ≤ a' 160 377 0 ∧ a' 215 303 0 + a' 160 377 0 = (m : Int)) → a' 215 303 0 = a 215 303 0 → b' 413 602 0 = (m : Int) + 1 → b' 427 602 0 = b 427 602 0 → (∀ f x : Nat, 604 ≤ x → x ≤ 714 → b' f x m = b f x m) →
      (714 < r ∧ r ≤ a' 2 0 0) → a' 0 r.toNat 0 = 124 → StrN a' (a' 321 r.toNat 0) (lw u n j0) (cw u n j0) → a' 322 r.toNat 0 = x1 → a' 323 r.toNat 0 = x2 → a' 324 r.toNat 0 = 2 + κ → a' 325 r.toNat 0 = 10 → a' 329 r.toNat 0 = 0 → a' 330 r.toNat 0 = 0 → (0 ≤ κ ∧ κ ≤ 7) → (tk u n i = 2 ∧ kw u n i = κ + 2) → a 2 0 0 < r → NE m a b a' b' →
      Bo 304 9 9 (cv_ (if x2 = 0 then cv_ (fj_run dA 186 a' [(4, 377), (4, r)]) (fun h12 => c_161_173 dA r h12) (fun q h => tx_ q h) else c_161_173 dA r a') KA (fun q h => tx_ q h)) (BB κ b') P (WrN m0 a0 b0)) :
    Bo 304 9 9 (cv_ (c_161_143 dA x1 x2 (a 12 383 j0) a) KA (fun q h => tx_ q h)) (ca_ (fj_run dB 507 b [(4, 602)]) 0 (fun v h => BB v h) (fun q h => tx_ q h)) P (WrN m0 a0 b0) := by
  obtain ⟨e, rfl⟩ : ∃ e, dB = e + 1 := ⟨dB - 1, by omega⟩
  obtain ⟨d, rfl⟩ : ∃ e, dA = e + 2 := ⟨dA - 2, by omega⟩
  have ht := q.ha.1.2.2.1
  have hw := rR q.ha (f := 12) rfl 383 j0
  have hp := q.ple
  rw [e_161_143 (d + 2) x1 x2 _ q.ha.1, nw_eq]
  have HN : Hp (fi_new a 124 10 0) := Hp.n q.ha 10 (k := 124) (len := 0) (by decide) ⟨by omega, by omega⟩
  have FN : Fr (fun _ _ _ => False) a (fi_new a 124 10 0) := Fr.n 124 10 0 (Fr.rf _ _) (by omega)
  have cN : fi_new a 124 10 0 0 (a 2 0 0 + 1).toNat 0 = 124 := new_c 124 10 0 q.ha 0
  have zN : ∀ f, 2 ≤ f → fi_new a 124 10 0 f (a 2 0 0 + 1).toNat 0 = 0 := fun f hf => new_z 124 10 0 q.ha 0 hf
  have tN : fi_new a 124 10 0 2 0 0 = a 2 0 0 + 1 := new_2 124 10 0 q.ha
  have PN : PS u n M i (fi_new a 124 10 0) b := q.f HN q.hb FN (Fr.rf (fun _ _ _ => False) _) (fun _ _ _ _ _ _ _ => id) (fun _ _ _ _ _ _ _ => id) (fun _ _ _ _ => ⟨id, id⟩) ⟨id, id⟩ (fun _ _ _ => id) ⟨id, fun _ => id⟩
  obtain ⟨r, hr⟩ : ∃ r : Int, r = a 2 0 0 + 1 := ⟨_, rfl⟩
  rw [← hr] at cN zN tN
  rw [← hr]
  generalize fi_new a 124 10 0 = aN at *
  have hr7 : 714 < r := by omega
  obtain ⟨a3, P3, F3, e3⟩ := kA_kind PN (dA := d + 2) (by omega)
  have V3 : NE m a b a3 b := ⟨(FN.mono (fun _ _ _ z => z.elim)).tr (F3.mono (fun _ _ _ z => Or.inl (Or.inl z))), Fr.rf _ _⟩
  have t3 : r ≤ a3 2 0 0 := by have := F3.1; omega
  have r3 : ∀ f, (f = 0 ∨ 321 ≤ f) → a3 f r.toNat 0 = aN f r.toNat 0 := fun f hf => F3.2 f _ 0 (by omega) (by omega) (by simp only [wTA]; omega)
  rw [cv_ca, e3, kB_kind P3 (dB := e) (by omega)]
  by_cases z : tk u n i = 2 ∧ 2 ≤ kw u n i ∧ kw u n i ≤ 9
  · rw [if_pos z, if_pos z, ca_ret, ca_cv, cv_cv]
    obtain ⟨a5, e5, H5, F5, y1, y2, y3, y4, y5, y6⟩ := kA_init P3.ha (d := d) ⟨hr7, t3⟩ (by rw [r3 0 (by omega)]; exact cN) (by rw [r3 321 (by omega)]; exact zN 321 (by omega)) (by rw [r3 322 (by omega)]; exact zN 322 (by omega)) (by rw [r3 323 (by omega)]; exact zN 323 (by omega)) (by rw [r3 324 (by omega)]; exact zN 324 (by omega)) (w := a 12 383 j0) (x1 := x1) (x2 := x2) (v := kw u n i) (by omega) hx1 hx2 (by omega)
    rw [e5, cv_ret, cv_cv]
    have c3 : a3 0 r.toNat 0 = 124 := by rw [r3 0 (by omega)]; exact cN
    have key : ∀ x : Nat, (x : Int) = r → a3 0 x 0 = 124 := fun x hx => by rw [← c3, ← hx, Int.toNat_natCast]
    have P5 : PS u n M i a5 b := P3.f H5 q.hb F5 (Fr.rf (fun _ _ _ => False) _) (fun f x i x1 x2 _ _ z => by omega) (fun f x i x1 x2 _ _ z => by have := key x z.1; omega) (fun x i x1 x2 => ⟨fun z => by omega, fun z => by omega⟩) ⟨by omega, by omega⟩ (fun _ _ _ => id) ⟨id, fun _ => id⟩
    have V5 : NE m a b a5 b := ⟨V3.1.on F5 (fun f x i h0 h1 z => by omega), Fr.rf _ _⟩
    have t5 : r ≤ a5 2 0 0 := by have := F5.1; omega
    refine Bo.cvcv (t_take P5 (by omega) (by omega) ⟨by omega, by omega⟩) (fun _ a6 _ b6 HA6 HB6 w => ?_) (fun a' b' HA HB w => Bo.tx HA HB (WrN.ofE (V.tr (V5.mono hm0)) w))
    obtain ⟨P6, T6, c6⟩ := w
    have V6 : NE m a b a6 b6 := V5.tr T6.v.ne
    obtain ⟨e6, -⟩ := T6.v.thing (r := r) (m := m) q.hb ⟨hr7, t5⟩
    have aA : ∀ f x k : Nat, 0 < x → x ≤ 714 → f ≠ 319 → f ≠ 320 → x ≠ 304 → ¬ (x = 377 ∧ (f = 158 ∨ f = 159 ∨ (167 ≤ f ∧ f ≤ 169))) → a6 f x k = a f x k := fun f x k h1 h2 h3 h4 h5 h6 => by
      rw [T6.v.cellA P5.ha f x k h1 h2 h3 h4 h5 h6, F5.2 f x k h1 (by have := P3.ha.1.2.2.1; omega) (by omega), (TkE.ofA (b := b) F3).cellA HN f x k h1 h2 h3 h4 h5 h6, FN.2 f x k h1 (by omega) id]
    rw [ca_ret]
    have c383 : a6 12 383 j0 = a 12 383 j0 := aA 12 383 j0 (by decide) (by decide) (by decide) (by decide) (by decide) (by decide)
    have S6 := (P6.rw hj0).1.2.2.2.2.2 hk0
    have w321 : a6 321 r.toNat 0 = a6 12 383 j0 := by rw [e6 321 (by omega), y1, c383]
    refine kk a6 b6 r (kw u n i - 2) P6 (V.tr (V6.mono hm0)) (V6.names q.ha q.hb N) ⟨by rw [aA 160 377 0 (by decide) (by decide) (by decide) (by decide) (by decide) (by decide)]; exact h1.1, by rw [aA 160 377 0 (by decide) (by decide) (by decide) (by decide) (by decide) (by decide), aA 215 303 0 (by decide) (by decide) (by decide) (by decide) (by decide) (by decide)]; exact h1.2⟩ (aA 215 303 0 (by decide) (by decide) (by decide) (by decide) (by decide) (by decide)) ((T6.v.b413 q.hb).trans h413) c6 (fun f x h1 h2 => T6.v.rows q.hb f x m h1 h2) ⟨hr7, by have := T6.1.1; omega⟩ (by rw [e6 0 (by omega), y6 0 (by omega)]; exact c3) (by rw [w321]; exact S6) (by rw [e6 322 (by omega)]; exact y2) (by rw [e6 323 (by omega)]; exact y3) (by rw [e6 324 (by omega), y4]; omega) (by rw [e6 325 (by omega)]; exact y5) (by rw [e6 329 (by omega), y6 329 (by omega), r3 329 (by omega)]; exact zN 329 (by omega)) (by rw [e6 330 (by omega), y6 330 (by omega), r3 330 (by omega)]; exact zN 330 (by omega)) (by omega) ⟨z.1, by omega⟩ (by omega) V6
  · rw [if_neg z, if_neg z, ca_thr, tx_304 (wra_hp P3.ha (by omega) (by omega)), ca_thr, tx_603 (wrb_hp q.hb (by omega) (by omega))]
    exact n_wr P3.ha q.hb (V.tr (V3.mono hm0)) (by omega) (by omega)
end DECL4
end
