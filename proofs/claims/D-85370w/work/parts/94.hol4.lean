section
/-! reading: holidays, all of a tape -/
set_option maxRecDepth 100000
theorem ca_ca {t t' : Nat} {r : fk_R} {k : Int → fi_H → fk_R} {K : Int → fi_H → fk_R} : ca_ (ca_ r t k (fun q h => tx_ q h)) t' K (fun q h => tx_ q h) = ca_ r t (fun v h => ca_ (k v h) t' K (fun q h => tx_ q h)) (fun q h => tx_ q h) := by
  rcases r with _ | ⟨(_ | ⟨s, v⟩) | q, h⟩
  · rfl
  · rfl
  · show ca_ (if s = t then k v h else none) t' K (fun q h => tx_ q h) = if s = t then ca_ (k v h) t' K (fun q h => tx_ q h) else none
    split <;> rfl
  · exact ca_tx
section HOL4
variable {u : Nat → Int} {n M : Nat} {a b a0 b0 : fi_H} {dA dB w k j : Nat} {P : Int → fi_H → Int → fi_H → Prop} {E : fi_H → fi_H → Prop}
theorem t_what {i : Nat} (q : PS u n M i a b) (z : tk u n i = 2) : b 395 602 0 = kw u n i := (q.tb.2.2.2.2.1 z).1
theorem h_wr {TA TB : Nat} {P : Int → fi_H → Int → fi_H → Prop} (q : PS u n M j a b) (V : HE w a0 b0 a b) (hE : ∀ a' b', Wr a' b' → HE w a0 b0 a' b' → E a' b') {c : Int} (hc : 0 ≤ c ∧ c < 100) : Bo 304 TA TB (some (.inr 304, wra a c (pl u n j))) (some (.inr 603, wrb b c (pl u n j))) P E :=
  (t_wrong q hc).imp (fun _ _ _ _ _ _ z => z) (fun a' b' _ _ z => hE a' b' z.1 (V.tr (HE.t z.2)))
theorem t_holt {o s x y : Int} (hw : w = 307 ∨ w = 308) (hk : k < 20) (hA : 4 ≤ dA) (hB : 13 ≤ dB) (q : PS u n M j a b) (O : HolO a o s x y) (e1 : b 10 604 (21 + k) = s) (e2 : b 10 605 (21 + k) = x) (e3 : b 10 606 (21 + k) = y) (R : HRw w k a b) (V : HE w a0 b0 a b) (h211 : a 211 303 0 = (w : Int))
    (hE : ∀ a' b', Wr a' b' → HE w a0 b0 a' b' → E a' b')
    (ih : ∀ a' b', PS u n M (j + 1) a' b' → a' 211 303 0 = (w : Int) → HRw w (k + 1) a' b' → HE w a0 b0 a' b' → Bo 304 0 9 (c_198_2 dA ((k + 1 : Nat) : Int) a') (c_522_2 dB ((k + 1 : Nat) : Int) b') P E) :
    Bo 304 0 9 (c_198_151 dA (k : Int) (w : Int) (k : Int) o a) (c_522_416 dB (k : Int) b) P E := by
  have ta := q.ha.1.2.2.1
  have cw : a 0 w 0 = 20 := by rcases hw with rfl | rfl; exact s0_307 q.ha.1; exact s0_308 q.ha.1
  have lw : a 1 w 0 = 20 := by rcases hw with rfl | rfl; exact s1_307 q.ha.1; exact s1_308 q.ha.1
  have sup : (fi_sup (a 0 o.toNat 0)).contains (fi_comp 20) = true := by
    rcases O.2 with ⟨-, z, -⟩ | ⟨-, z, -⟩ | ⟨-, z, -⟩ <;> rw [z] <;> rfl
  have w1 : wI ((k : Int) + 1) = ((k + 1 : Nat) : Int) := by rw [wI_id (by omega) (by omega)]; omega
  have O1 := O.1
  have H1 : Hp (fi_upd a 12 w k o) := Hp.uR q.ha k (by omega) (by decide) ⟨by omega, O1.2⟩
  have F1 : Fr (fun f y _ => f = 12 ∧ y = w) a (fi_upd a 12 w k o) := Fr.u k _ (Fr.rf _ _) (by omega) ⟨rfl, rfl⟩
  have P1 := q.aw (x := w) H1 F1 (by omega)
  have V1 : HE w a0 b0 (fi_upd a 12 w k o) b := V.tr ⟨F1.mono (fun _ _ _ z => Or.inr z), Fr.rf _ _⟩
  have R1 : HRw w (k + 1) (fi_upd a 12 w k o) b := by
    intro i hi
    by_cases z : i = k
    · subst z
      rw [fi_upd_same, e1, e2, e3]
      exact O.f F1 (fun f x i hx _ z => by omega)
    · rw [fi_upd_ne _ _ _ _ _ (by omega)]
      exact (R i (by omega)).f F1 (fun f x i hx _ z => by omega)
  have v211 : fi_upd a 12 w k o 211 303 0 = (w : Int) := by rw [fi_upd_ne _ _ _ _ _ (by omega)]; exact h211
  rw [e_198_151 dA _ _ _ _ q.ha.1, Int.toNat_natCast, Int.toNat_natCast, cw, lw, if_pos ⟨by omega, by decide⟩, if_pos (by omega), if_pos ⟨by decide, Or.inr sup⟩, lt_eq, e_522_416 dB _ q.hb.1, w1]
  generalize fi_upd a 12 w k o = a1 at *
  refine Bo.cvcv (t_need P1 hA hB (c := 59) (by decide)) (fun _ a2 _ b2 HA HB z => ?_) (fun a2 b2 HA HB z => Bo.tx HA HB (hE a2 b2 z.1 (V1.tr (HE.t z.2))))
  obtain ⟨z1, z2, -⟩ := z
  refine ih a2 b2 z1 ?_ ?_ (V1.tr (HE.t z2))
  · rw [z2.1.2 211 303 0 (by decide) (by have := P1.ha.1.2.2.1; omega) (by simp only [wTA]; omega)]; exact v211
  · exact R1.f hw P1.ha P1.hb z2.1 z2.2 (fun f x i h1 _ hf => by simp only [wTA]; omega) (fun j _ => by simp only [wTA]; omega) (fun x j h1 h2 _ => by simp only [wTB]; omega)
end HOL4
end
