section
/-! reading expressions: a sign and what stands to its right -/
set_option maxRecDepth 100000
section JOIN
variable {u : Nat → Int} {n M i m p : Nat} {a b a0 b0 : fi_H} {dA dB d : Nat}
theorem PR.low {lo lo' : Nat} (h : lo' ≤ lo) : ∀ (k : Nat) (x : Int) (r : Nat), PR k a b m lo x r → PR k a b m lo' x r := by
  intro k
  induction k with
  | zero => intro x r q; exact q.elim
  | succ k ih =>
    intro x r q
    obtain ⟨q1, q2, q⟩ := q
    refine ⟨by omega, q2, ?_⟩
    rcases q with q | ⟨o, q, r1, r2, r3, r4⟩ | ⟨o, s1, s2, r1, r2, r3, r4, r5, r6⟩ | ⟨o, s1, r1, r2, r3, r4, r7, r8⟩ | ⟨o, q, r1, r2, r3, r4, r5⟩ | ⟨w, q, k, r1, r2, r3, r5, r6, r7, r8, r9, r10, r11⟩ | ⟨s1, s2, s3, r1, r2, r3⟩
    · exact Or.inl q
    · exact Or.inr (Or.inl ⟨o, q, r1, r2, ih _ _ r3, r4⟩)
    · exact Or.inr (Or.inr (Or.inl ⟨o, s1, s2, r1, r2, r3, ih _ _ r4, r5, r6⟩))
    · exact Or.inr (Or.inr (Or.inr (Or.inl ⟨o, s1, r1, r2, r3, r4, ih _ _ r7, r8⟩)))
    · exact Or.inr (Or.inr (Or.inr (Or.inr (Or.inl ⟨o, q, r1, r2, r3, ih _ _ r4, r5⟩))))
    · exact Or.inr (Or.inr (Or.inr (Or.inr (Or.inr (Or.inl ⟨w, q, k, r1, r2, r3, r5, r6, r7, r8, r9, ih _ _ r10, r11⟩)))))
    · exact Or.inr (Or.inr (Or.inr (Or.inr (Or.inr (Or.inr ⟨s1, s2, s3, r1, ih _ _ r2, r3⟩)))))
/-- what stands on the left has been read, from (a0, b0) on -/
def XL (u : Nat → Int) (n M i0 i m p0 p : Nat) (a0 b0 a b : fi_H) (x : Int) (r : Nat) : Prop := i0 ≤ i ∧ p0 ≤ r ∧ r < p ∧ XS u n M i m p a b ∧ XE p0 a0 b0 a b ∧ b 427 602 0 = b0 427 602 0 ∧ PR 16 a b m p0 x r
theorem XL.p0 {i0 p0 r : Nat} {x : Int} (q : XL u n M i0 i m p0 p a0 b0 a b x r) : p0 ≤ p := by have := q.2.1; have := q.2.2.1; omega
theorem t_join {i0 p0 : Nat} {x1 : Int} {q1 : Nat} (q : XL u n M i0 i m p0 p a0 b0 a b x1 q1) (hk : tk u n i ≠ 0 ∧ tk u n i ≠ 1) {o : Int} (ho : 1 ≤ o ∧ o ≤ 14 ∧ o ≠ 3) {MA MB c : Nat}
    (hsel : (sgn o = 0 ∧ MA = 232) ∨ (sgn o = 1 ∧ MA = 233) ∨ ((sgn o = 8 ∨ sgn o = 9) ∧ MA = 236) ∨ ((sgn o = 10 ∨ sgn o = 11 ∨ sgn o = 12) ∧ MA = 237) ∨ (2 ≤ sgn o ∧ sgn o ≤ 7 ∧ MA = 235))
    (R : RF MA MB c u n M (i + 1)) (hc : 12 ≤ c) (hA : 20 * (40 - (b0 427 602 0).toNat) + c ≤ dA) (hB : 20 * (40 - (b0 427 602 0).toNat) + c ≤ dB) {TA TB : Nat} {P : Int → fi_H → Int → fi_H → Prop} {E : fi_H → fi_H → Prop} {KA KB : Int → fi_H → fk_R} (hE : ∀ a' b', WrX p0 a0 b0 a' b' → E a' b')
    (k : ∀ (x : Int) (a' b' : fi_H) (r j p' : Nat), i < j → XL u n M i0 j m p0 p' a0 b0 a' b' x r → Bo 304 TA TB (KA x a') (KB (r : Int) b') P E) :
    Bo 304 TA TB (ca_ (fj_run (dA + 1) 297 a [(4, 377), (4, 15 + sgn o), (4, x1)]) 4 KA (fun q h => tx_ q h)) (cv_ (fj_run dB 502 b [(4, 602)]) (fun h4 => ca_ (fj_run dB MB h4 [(4, 602)]) 0 (fun v8 h7 => ca_ (fj_run dB 561 h7 [(4, 602), (0, o), (0, b 396 602 0), (0, (q1 : Int)), (0, v8)]) 0 KB (fun q h => tx_ q h)) (fun q h => tx_ q h)) (fun q h => tx_ q h)) P E := by
  obtain ⟨l1, l2, l3, X, V, c427, c1⟩ := q
  have hi := X.1.2.2.2.2.1
  have hp := X.1.ple
  obtain ⟨d, rfl⟩ : ∃ e, dA = e + 12 := ⟨dA - 12, by omega⟩
  obtain ⟨e, rfl⟩ : ∃ e', dB = e' + 12 := ⟨dB - 12, by omega⟩
  rw [m_297 (d + 12) _ x1 X.1.ha.1, X.1.at, if_pos (by omega), Int.toNat_natCast, X.1.row.2, ca_cv, X.1.tb.1]
  refine Bo.cvcv (t_take X.1 (by omega) (by omega) hk) (fun _ a1 _ b1 HA1 HB1 z => ?_) (fun a1 b1 HA1 HB1 z => Bo.tx HA1 HB1 (hE _ _ (WrX.ofE V z)))
  obtain ⟨P1, T1, d427⟩ := z
  have X1 := X.v P1 T1.v
  have V1 : XE p0 a0 b0 a1 b1 := V.tr T1.v.x
  have hs : 0 ≤ sgn o ∧ sgn o ≤ 14 := by unfold sgn; (repeat' split) <;> omega
  obtain ⟨s1, s2⟩ := sg_cl P1.ha.1 hs
  have hin : fi_in 167 572 = true := rfl
  have ord : fj_run (d + 12) 37 a1 [(4, 15 + sgn o)] = some (.inl (some (0, sgn o)), a1) := by rw [m_37 (d + 11) _ P1.ha.1 s1 (by decide), s1, if_pos hin, s2]
  rw [s1, show fi_vt 234 167 = some 37 from rfl, dv_s, ord, ca_ret]
  have fin : Bo 304 TA TB (ca_ (ca_ (fj_run (d + 12) MA a1 [(4, 377)]) 4 (fun v h => c_297_126 (d + 12) (15 + sgn o) x1 (pl u n i) v h) (fun q h => tx_ q h)) 4 KA (fun q h => tx_ q h)) (ca_ (fj_run (e + 12) MB b1 [(4, 602)]) 0 (fun v8 h7 => ca_ (fj_run (e + 12) 561 h7 [(4, 602), (0, o), (0, (pl u n i : Int)), (0, (q1 : Int)), (0, v8)]) 0 KB (fun q h => tx_ q h)) (fun q h => tx_ q h)) P E := by
    rw [ca_ca]
    refine Bo.caca (R m p a1 b1 (d + 12) (e + 12) X1 (by rw [d427, c427]; exact hA) (by rw [d427, c427]; exact hB)) (by decide) (by decide) (fun x2 a2 y b2 HA2 HB2 z => ?_) (fun a2 b2 HA2 HB2 z => Bo.tx HA2 HB2 (hE _ _ (z.tr V1 (by omega))))
    obtain ⟨j, p', r, hj, hr1, hr2, rfl, X2, V2, e427, c2⟩ := z
    have cl := ((T1.v.x (p0 := p)).tr V2).pr X.1.ha X.1.hb c1 (by omega)
    have c2' := PR.low (lo' := q1 + 1) (by omega) _ _ _ c2
    have g1 := cl.prt.2.2.2.2.2.1
    have g2 := c2.prt.2.2.2.2.2.1
    have h1 := cl.lo
    have h2 := c2.lo
    rw [e_297_126 _ _ _ _ _ X2.1.ha.1, ca_ca, m_561 (e + 11) o _ _ _ X2.1.hb.1, if_pos (by omega), if_pos (by omega), Int.toNat_natCast, Int.toNat_natCast, kB_two (d := e + 9) X2.1.hb.1 ho g1 g2, ca_ret, ca_ca]
    refine Bo.caca (t_mk2 X2 (o := o) ⟨by omega, by omega, by omega, by omega⟩ cl c2' (by omega) (by omega) (by omega) (by omega)) (by decide) (by decide) (fun x a3 y b3 HA3 HB3 z => ?_) (fun a3 b3 HA3 HB3 z => Bo.tx HA3 HB3 (hE _ _ (z.tr (V1.tr (V2.mono (by omega))) (by omega))))
    obtain ⟨rfl, X3, V3, f427, c3⟩ := z
    rw [ca_ret, ca_ret]
    exact k x a3 b3 p' j (p' + 1) (by omega) ⟨by omega, by omega, by omega, X3, (V1.tr (V2.mono (by omega))).tr (V3.mono (by omega)), by rw [f427, e427, d427, c427], c3⟩
  rcases hsel with ⟨z, rfl⟩ | ⟨z, rfl⟩ | ⟨z | z, rfl⟩ | ⟨z | z | z, rfl⟩ | ⟨z1, z2, rfl⟩
  · rw [if_pos z]; exact fin
  · rw [if_neg (by omega), if_pos z]; exact fin
  · rw [if_neg (by omega), if_neg (by omega), if_pos z]; exact fin
  · rw [if_neg (by omega), if_neg (by omega), if_neg (by omega), if_pos z]; exact fin
  · rw [if_neg (by omega), if_neg (by omega), if_neg (by omega), if_neg (by omega), if_pos z]; exact fin
  · rw [if_neg (by omega), if_neg (by omega), if_neg (by omega), if_neg (by omega), if_neg (by omega), if_pos z]; exact fin
  · rw [if_neg (by omega), if_neg (by omega), if_neg (by omega), if_neg (by omega), if_neg (by omega), if_neg (by omega), if_pos z]; exact fin
  · rw [if_neg (by omega), if_neg (by omega), if_neg (by omega), if_neg (by omega), if_neg (by omega), if_neg (by omega), if_neg (by omega)]; exact fin
end JOIN
end
