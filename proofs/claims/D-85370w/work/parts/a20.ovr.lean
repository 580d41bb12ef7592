section
/-! reading expressions: several in a parenthesis
-/
set_option maxRecDepth 100000
section OVR
variable {u : Nat → Int} {n M i m p p0 : Nat} {a b a0 b0 : fi_H} {dA dB d : Nat}
/-- one expression of several -/
theorem t_arg (X : XS u n M i m p a b) (V : XE p0 a0 b0 a b) (hp : p0 ≤ p) {c : Nat} (R : RF 231 535 c u n M i) (hA : 20 * (40 - (b 427 602 0).toNat) + c ≤ dA) (hB : 20 * (40 - (b 427 602 0).toNat) + c ≤ dB) {TA TB : Nat} {P : Int → fi_H → Int → fi_H → Prop} {KA KB : Int → fi_H → fk_R}
    (k : ∀ (x : Int) (r j p' : Nat) (a' b' : fi_H), i < j → p ≤ r → r < p' → XS u n M j m p' a' b' → XE p0 a0 b0 a' b' → XE p a b a' b' → b' 427 602 0 = b 427 602 0 → PR 16 a' b' m p x r → Bo 304 TA TB (KA x a') (KB (r : Int) b') P (WrX p0 a0 b0)) :
    Bo 304 TA TB (ca_ (fj_run dA 231 a [(4, 377)]) 4 KA (fun q h => tx_ q h)) (ca_ (fj_run dB 535 b [(4, 602)]) 0 KB (fun q h => tx_ q h)) P (WrX p0 a0 b0) := by
  refine Bo.caca (R m p a b dA dB X hA hB) (by decide) (by decide) (fun x a3 y b3 HA3 HB3 w => ?_) (fun a3 b3 HA3 HB3 w => Bo.tx HA3 HB3 (w.tr V hp))
  obtain ⟨j, p', r, hj, h1, h2, rfl, X3, V3, c3, q3⟩ := w
  exact k x r j p' a3 b3 hj h1 h2 X3 (V.tr (V3.mono hp)) V3 c3 q3
/-- a sign behind it -/
theorem t_com (X : XS u n M i m p a b) (V : XE p0 a0 b0 a b) {c : Int} (hc : c ≠ 108 ∧ c ≠ 103 ∧ c < 128) (hA : 4 ≤ dA) (hB : 13 ≤ dB) {TA TB : Nat} {P : Int → fi_H → Int → fi_H → Prop} {KA KB : fi_H → fk_R}
    (k : ∀ (a' b' : fi_H), XS u n M (i + 1) m p a' b' → XE p0 a0 b0 a' b' → XE p a b a' b' → b' 427 602 0 = b 427 602 0 → Bo 304 TA TB (KA a') (KB b') P (WrX p0 a0 b0)) :
    Bo 304 TA TB (cv_ (fj_run dA 182 a [(4, 377), (0, c)]) KA (fun q h => tx_ q h)) (cv_ (fj_run dB 505 b [(4, 602), (0, c)]) KB (fun q h => tx_ q h)) P (WrX p0 a0 b0) := by
  refine Bo.cvcv (t_need X.1 hA hB hc) (fun _ a1 _ b1 HA1 HB1 w => ?_) (fun a1 b1 HA1 HB1 w => Bo.tx HA1 HB1 (WrX.ofE V w))
  obtain ⟨P1, T1, c1, -⟩ := w
  exact k a1 b1 (X.v P1 T1.v) (V.tr T1.v.x) T1.v.x c1
/-- it closes -/
theorem t_clo (X : XS u n M i m p a b) (V : XE p0 a0 b0 a b) (h1 : 1 ≤ b 427 602 0) (hA : 5 ≤ dA) (hB : 15 ≤ dB) {TA TB : Nat} {P : Int → fi_H → Int → fi_H → Prop} {KA KB : fi_H → fk_R}
    (k : ∀ (a' b' : fi_H), XS u n M (i + 1) m p a' b' → XE p0 a0 b0 a' b' → XE p a b a' b' → b' 427 602 0 = b 427 602 0 - 1 → Bo 304 TA TB (KA a') (KB b') P (WrX p0 a0 b0)) :
    Bo 304 TA TB (cv_ (fj_run dA 242 a [(4, 377)]) KA (fun q h => tx_ q h)) (cv_ (fj_run dB 550 b [(4, 602)]) KB (fun q h => tx_ q h)) P (WrX p0 a0 b0) :=
  t_clos X.1 h1 hA hB (fun a' b' w => WrX.ofE V w) (fun a' b' P' T' c' => k a' b' (X.v P' T'.v) (V.tr T'.v.x) T'.v.x c')
/-- a word, then a parenthesis opens -/
theorem t_wop (X : XS u n M i m p a b) (hk : tk u n i ≠ 0 ∧ tk u n i ≠ 1) (hA : 5 ≤ dA) (hB : 15 ≤ dB) {TA TB : Nat} {P : Int → fi_H → Int → fi_H → Prop} {KA KB : fi_H → fk_R}
    (k : ∀ (a' b' : fi_H), XS u n M (i + 2) m p a' b' → XE p a b a' b' → b' 427 602 0 = b 427 602 0 + 1 → b 427 602 0 < 40 → Bo 304 TA TB (KA a') (KB b') P (WrX p a b)) :
    Bo 304 TA TB (cv_ (fj_run dA 166 a [(4, 377)]) (fun h1 => cv_ (fj_run dA 248 h1 [(4, 377)]) KA (fun q h => tx_ q h)) (fun q h => tx_ q h)) (cv_ (fj_run dB 502 b [(4, 602)]) (fun h1 => cv_ (fj_run dB 548 h1 [(4, 602)]) KB (fun q h => tx_ q h)) (fun q h => tx_ q h)) P (WrX p a b) := by
  refine Bo.cvcv (t_take X.1 (by omega) (by omega) hk) (fun _ a1 _ b1 HA1 HB1 w => ?_) (fun a1 b1 HA1 HB1 w => Bo.tx HA1 HB1 (WrX.ofE XE.rf w))
  obtain ⟨P1, T1, c1⟩ := w
  refine t_nopn P1 (by omega) (by omega) (fun a' b' w => WrX.ofE T1.v.x w) (fun a2 b2 P2 T2 c2 l2 => ?_)
  exact k a2 b2 (X.v P2 (T1.tr T2).v) (T1.tr T2).v.x (by omega) (by omega)
end OVR
end
