section
/-! reading expressions: what opens and closes -/
set_option maxRecDepth 100000
section OPN
variable {u : Nat → Int} {n M i m p : Nat} {a b : fi_H} {dA dB d : Nat}
theorem PS.o (q : PS u n M i a b) {v : Int} (hv : 0 ≤ v ∧ v ≤ 40) : PS u n M i (fi_upd a 159 377 0 v) (fi_upd b 427 602 0 v) := by
  have HA : Hp (fi_upd a 159 377 0 v) := Hp.uI q.ha 0 (by decide) (by decide) (by omega)
  have HB : Hp (fi_upd b 427 602 0 v) := Hp.uI q.hb 0 (by decide) (by decide) (by omega)
  have F : Fr (fun f x _ => f = 159 ∧ x = 377) a (fi_upd a 159 377 0 v) := Fr.u 0 _ (Fr.rf _ _) (by decide) ⟨rfl, rfl⟩
  have G : Fr (fun f x _ => f = 427 ∧ x = 602) b (fi_upd b 427 602 0 v) := Fr.u 0 _ (Fr.rf _ _) (by decide) ⟨rfl, rfl⟩
  have e1 : fi_upd a 159 377 0 v 159 377 0 = v := fi_upd_same _ _ _ _ _
  have e2 : fi_upd b 427 602 0 v 427 602 0 = v := fi_upd_same _ _ _ _ _
  generalize fi_upd a 159 377 0 v = a' at *
  generalize fi_upd b 427 602 0 v = b' at *
  obtain ⟨q1, q2, q3, q4, q5, q6, q7, q8, q9, q10, q11, q12⟩ := q
  have ta := q1.1.2.2.1
  have tb := q2.1.1.2.2.1
  have e : ∀ f, 393 ≤ f → f ≤ 403 → b' f 602 0 = b f 602 0 := fun f f1 f2 => G.2 f 602 0 (by decide) (by omega) (by omega)
  refine ⟨HA, q2.st HB G ⟨by omega, fun k z => by omega⟩, q3.st q1 F (fun f x i _ _ _ _ z => by omega) (fun f x i _ z => by omega), by rw [F.2 158 377 0 (by decide) (by omega) (by omega)]; exact q4, q5, ?_, by rw [e 398 (by decide) (by decide)]; exact q7, by rw [e1, e2], by rw [e2]; exact hv.1, by rw [e2]; exact hv.2, by rw [e 402 (by decide) (by decide)]; exact q11, by rw [e 403 (by decide) (by decide)]; exact q12⟩
  unfold TokB at q6 ⊢
  rw [e 396 (by decide) (by decide), e 397 (by decide) (by decide), e 394 (by decide) (by decide), e 395 (by decide) (by decide), e 399 (by decide) (by decide), e 400 (by decide) (by decide), e 401 (by decide) (by decide)]
  exact q6
theorem o_tk (v : Int) : TkE a b (fi_upd a 159 377 0 v) (fi_upd b 427 602 0 v) := ⟨Fr.u 0 _ (Fr.rf _ _) (by decide) (by simp [wTA]), Fr.u 0 _ (Fr.rf _ _) (by decide) (by simp [wTB])⟩
theorem XS.o (q : XS u n M i m p a b) {v : Int} (hv : 0 ≤ v ∧ v ≤ 40) : XS u n M i m p (fi_upd a 159 377 0 v) (fi_upd b 427 602 0 v) := q.v (q.1.o hv) (o_tk v).v
theorem PS.op (q : PS u n M i a b) : a 159 377 0 = b 427 602 0 ∧ 0 ≤ b 427 602 0 ∧ b 427 602 0 ≤ 40 := ⟨q.2.2.2.2.2.2.2.1, q.2.2.2.2.2.2.2.2.1, q.2.2.2.2.2.2.2.2.2.1⟩
/-- one more is open, the token is gone over -/
theorem t_opn (q : PS u n M i a b) (hA : 4 ≤ dA) (hB : 14 ≤ dB) (hk : tk u n i ≠ 0 ∧ tk u n i ≠ 1) {TA TB : Nat} {P : Int → fi_H → Int → fi_H → Prop} {E : fi_H → fi_H → Prop} {KA KB : fi_H → fk_R} (hE : ∀ a' b', WrE a b a' b' → E a' b')
    (k : ∀ a' b', PS u n M (i + 1) a' b' → TkE a b a' b' → b' 427 602 0 = b 427 602 0 + 1 → b 427 602 0 < 40 → Bo 304 TA TB (KA a') (KB b') P E) :
    Bo 304 TA TB (cv_ (fj_run dA 241 a [(4, 377)]) KA (fun q h => tx_ q h)) (cv_ (fj_run dB 549 b [(4, 602), (0, b 396 602 0)]) (fun h => cv_ (fj_run dB 502 h [(4, 602)]) KB (fun q h => tx_ q h)) (fun q h => tx_ q h)) P E := by
  obtain ⟨d, rfl⟩ : ∃ e, dA = e + 1 := ⟨dA - 1, by omega⟩
  obtain ⟨e, rfl⟩ : ∃ e', dB = e' + 1 := ⟨dB - 1, by omega⟩
  obtain ⟨o1, o2, o3⟩ := q.op
  have hp := q.ple
  rw [m_241 d q.ha.1, o1, m_549 e _ q.hb.1]
  by_cases z : b 427 602 0 = 40
  · rw [if_pos z, if_neg (by omega), kA_thr q (by omega) (by omega), cv_thr, tx_304 (wra_hp q.ha (by omega) (by omega)), e_549_15 _ _ _ _ q.hb.1, vt348 q.hb.1, dv_s, q.tb.1, kB_need0 q.hb (by omega) (by omega) (by omega), cv_thr, tx_603 (wrb_hp q.hb (by omega) (by omega)), cv_thr, tx_603 (wrb_hp q.hb (by omega) (by omega))]
    exact (t_wrong q (by omega)).imp (fun _ _ _ _ _ _ w => w) (fun a' b' _ _ w => hE a' b' w)
  · rw [if_neg z, if_pos (by omega), lt_eq, e_549_15 _ _ _ _ q.hb.1, vt348 q.hb.1, dv_s, kB_need1 q.hb (by omega) (by decide), cv_ret, lt_eq, cv_ret, wI_id (by omega) (by omega), cv_cv]
    have Q := q.o (v := b 427 602 0 + 1) (by omega)
    have T := o_tk (a := a) (b := b) (b 427 602 0 + 1)
    have v1 : fi_upd b 427 602 0 (b 427 602 0 + 1) 427 602 0 = b 427 602 0 + 1 := fi_upd_same _ _ _ _ _
    generalize fi_upd a 159 377 0 (b 427 602 0 + 1) = a1 at *
    generalize fi_upd b 427 602 0 (b 427 602 0 + 1) = b1 at *
    refine Bo.cvcv (t_take Q (by omega) (by omega) hk) (fun _ a2 _ b2 HA HB w => ?_) (fun a2 b2 HA HB w => Bo.tx HA HB (hE a2 b2 ⟨w.1, T.tr w.2⟩))
    rw [cv_ret]
    exact k a2 b2 w.1 (T.tr w.2.1) (by rw [w.2.2, v1]) (by omega)
end OPN
end
