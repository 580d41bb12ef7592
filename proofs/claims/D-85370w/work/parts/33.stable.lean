/-! what no run changes: classes and lengths, final fields that are written, the old cells -/
theorem fj_fk_ge {o i f : Nat} (e : fi_fk o i = some f) : 100 ≤ f := by
  have key : fi_fkT.all (fun l => l.all (fun q => decide (100 ≤ q.2))) = true := by decide +kernel
  unfold fi_fk at e
  have hm := List.mem_of_getElem? (l := fi_fkT) (i := o) (a := fi_fkT.getD o [])
  by_cases ho : o < fi_fkT.length
  · have h1 : fi_fkT.getD o [] ∈ fi_fkT := by
      rw [List.getD_eq_getElem?_getD, List.getElem?_eq_getElem ho]
      exact List.getElem_mem ho
    have h2 := List.all_eq_true.mp key _ h1
    have h3 : ∀ (l : List (Nat × Nat)), l.lookup i = some f → (i, f) ∈ l := by
      intro l
      induction l with
      | nil => intro h; cases h
      | cons q l ih =>
        obtain ⟨j, w⟩ := q
        intro h
        rw [List.lookup_cons] at h
        cases e : (i == j) with
        | true => rw [e] at h; have := eq_of_beq e; subst this; cases h; simp
        | false => rw [e] at h; exact List.mem_cons_of_mem _ (ih h)
    exact of_decide_eq_true (List.all_eq_true.mp h2 _ (h3 _ e))
  · rw [List.getD_eq_getElem?_getD, List.getElem?_eq_none (Nat.le_of_not_lt ho)] at e
    cases e
theorem fj_et_rg {t : Nat} {k : Int} (h : fi_et t k ≠ 0) (ht : t = 10 ∨ t = 11 ∨ t = 6 ∨ t = 7 ∨ t = 12 ∨ t = 1 ∨ t = 5 ∨ t = 9) : 4 ≤ fi_et t k ∧ fi_et t k ≤ 12 ∧ k ≠ 0 := by
  unfold fi_et at h ⊢
  rcases ht with rfl | rfl | rfl | rfl | rfl | rfl | rfl | rfl
  all_goals
    simp only [Nat.reduceEqDiff, if_false, if_true, Nat.reduceAdd] at h ⊢
    (repeat' split at h) <;> simp_all
    all_goals omega
theorem fj_as_rg {ins : Instr} (h : fi_as ins ≠ 0) : fi_as ins = 10 ∨ fi_as ins = 11 ∨ fi_as ins = 6 ∨ fi_as ins = 7 ∨ fi_as ins = 12 ∨ fi_as ins = 1 ∨ fi_as ins = 5 ∨ fi_as ins = 9 := by
  unfold fi_as at h ⊢
  split <;> simp_all
def fj_hs (h h' : fi_H) : Prop := h' = h ∨ (∃ f r v, h' = fi_upd h f r 0 v ∧ fi_J < r ∧ h 0 r 0 ≠ 0 ∧ 100 ≤ f ∧ (fj_fin f = true → h f r 0 = 0)) ∨
  (∃ f r i v, h' = fi_upd h f r i v ∧ fi_J < r ∧ h 0 r 0 ≠ 0 ∧ 4 ≤ f ∧ f ≤ 12) ∨ (∃ k n len, h' = fi_new h k n len) ∨ (∃ n k, h' = fi_grid h n k ∧ 0 ≤ n)
set_option maxHeartbeats 4000000 in
theorem fj_stp_hs {M : Nat} {ins : Instr} {len pc : Nat} {L : fi_L} {st : List FV} {h : fi_H} {pc' : Nat} {L' : fi_L} {st' : List FV} {h' : fi_H} (hok : fj_ok M ins st h = true) (e : fi_stp M ins len pc L st h = some (pc', L', st', h')) : fj_hs h h' := by
  unfold fi_stp at e
  repeat' (split at e)
  all_goals first
    | (cases e; exact Or.inl rfl)
    | (cases e; done)
    | (obtain ⟨a, -, e2⟩ := ft_map e; cases e2; exact Or.inl rfl)
    | (cases e; exact Or.inr (Or.inr (Or.inr (Or.inl ⟨_, _, _, rfl⟩))))
    | (cases e; rename_i q; exact Or.inr (Or.inr (Or.inr (Or.inr ⟨_, _, rfl, q.1⟩))))
    | (cases e
       rename_i hc
       have hx := fj_et_rg hc.1 (fj_as_rg (by assumption))
       exact Or.inr (Or.inr (Or.inl ⟨_, _, _, _, rfl, by omega, hx.2.2, hx.1, hx.2.1⟩)))
    | (cases e
       rename_i hf hr hq
       refine Or.inr (Or.inl ⟨_, _, _, rfl, by omega, ?_, fj_fk_ge hf, ?_⟩)
       · simp only [Bool.and_eq_true] at hq
         have := hq.1.1.1.1
         unfold fi_in at this
         simp only [Bool.and_eq_true, decide_eq_true_eq] at this
         omega
       · intro hfin
         unfold fj_ok at hok
         simp only [hf, hfin, Bool.not_true, Bool.false_or, decide_eq_true_eq] at hok
         exact hok)
def fj_nice (h : fi_H) : Prop := (fi_J : Int) ≤ h 2 0 0 ∧ ∀ a : Nat, h 2 0 0 < (a : Int) → ∀ f i, h f a i = 0
def fj_stb (h h' : fi_H) : Prop := h 2 0 0 ≤ h' 2 0 0 ∧ (∀ a : Nat, (a : Int) ≤ h 2 0 0 → h' 0 a 0 = h 0 a 0 ∧ h' 1 a 0 = h 1 a 0 ∧ ∀ f, fj_fin f = true → h f a 0 ≠ 0 → h' f a 0 = h f a 0) ∧ ∀ a, 1 ≤ a → a ≤ fi_J → ∀ f i, h' f a i = h f a i
theorem fj_stb_rf (h : fi_H) : fj_stb h h := ⟨Int.le_refl _, fun _ _ => ⟨rfl, rfl, fun _ _ _ => rfl⟩, fun _ _ _ _ _ => rfl⟩
theorem fj_stb_tr {a b c : fi_H} (h1 : fj_stb a b) (h2 : fj_stb b c) : fj_stb a c := by
  refine ⟨Int.le_trans h1.1 h2.1, fun x hx => ?_, fun x p q f i => (h2.2.2 x p q f i).trans (h1.2.2 x p q f i)⟩
  obtain ⟨p1, p2, p3⟩ := h1.2.1 x hx
  obtain ⟨q1, q2, q3⟩ := h2.2.1 x (Int.le_trans hx h1.1)
  refine ⟨q1.trans p1, q2.trans p2, fun f hf hn => ?_⟩
  have e := p3 f hf hn
  rw [q3 f hf (by rw [e]; exact hn), e]
theorem fj_fin_ge {f : Nat} (h : fj_fin f = true) : 100 < f := by
  by_cases hf : f ≤ 100
  · unfold fj_fin at h
    rw [Nat.sub_eq_zero_of_le hf] at h
    have h2 : (match fi_fn[0]? with | some q => q.2.2.2 | none => false) = false := by decide +kernel
    have h3 := h.symm.trans h2
    cases h3
  · omega
theorem fj_nice_le {h : fi_H} (hn : fj_nice h) {r : Nat} (hr : h 0 r 0 ≠ 0) : (r : Int) ≤ h 2 0 0 := by
  by_cases q : (r : Int) ≤ h 2 0 0
  · exact q
  · exact absurd (hn.2 r (by omega) 0 0) hr
theorem fj_hs_ok {h h' : fi_H} (hn : fj_nice h) (hs : fj_hs h h') : fj_nice h' ∧ fj_stb h h' := by
  have hJ : (0 : Int) ≤ (fi_J : Int) := by omega
  have hup : ∀ f r i v, fi_J < r → h 0 r 0 ≠ 0 → 4 ≤ f → (fj_fin f = true → h f r 0 = 0) → fj_nice (fi_upd h f r i v) ∧ fj_stb h (fi_upd h f r i v) := by
    intro f r i v hr h0 hf hfin
    have hle := fj_nice_le hn h0
    have e2 : fi_upd h f r i v 2 0 0 = h 2 0 0 := fi_upd_ne h f r i v (fun q => by omega)
    refine ⟨⟨by rw [e2]; exact hn.1, fun a ha g j => ?_⟩, by rw [e2]; exact Int.le_refl _, fun a ha => ⟨?_, ?_, fun g hg hne => ?_⟩, fun a h1 h2 g j => ?_⟩
    · rw [e2] at ha
      rw [fi_upd_ne h f r i v (fun q => by omega)]
      exact hn.2 a ha g j
    · exact fi_upd_ne h f r i v (fun q => by omega)
    · exact fi_upd_ne h f r i v (fun q => by omega)
    · refine fi_upd_ne h f r i v (fun q => ?_)
      obtain ⟨q1, q2, q3⟩ := q
      subst q1 q2
      exact hne (hfin hg)
    · exact fi_upd_ne h f r i v (fun q => by omega)
  rcases hs with rfl | ⟨f, r, v, rfl, hr, h0, hf, hfin⟩ | ⟨f, r, i, v, rfl, hr, h0, hf, hf2⟩ | ⟨k, n, len, rfl⟩ | ⟨n, k, rfl, hnn⟩
  · exact ⟨hn, fj_stb_rf _⟩
  · exact hup f r 0 v hr h0 (by omega) hfin
  · exact hup f r i v hr h0 hf (fun q => by have := fj_fin_ge q; omega)
  · have h0 : 0 ≤ h 2 0 0 := Int.le_trans hJ hn.1
    have e2 := fi_new_top h k n len h0
    refine ⟨⟨by rw [e2]; have := hn.1; omega, fun a ha g j => ?_⟩, by rw [e2]; omega, fun a ha => ?_, fun a h1 h2 g j => ?_⟩
    · rw [e2] at ha
      unfold fi_new
      rw [if_neg (by omega), if_neg (by omega)]
      exact hn.2 a (by omega) g j
    · have hq : ∀ g, g ≠ 2 → g ≠ 3 → fi_new h k n len g a 0 = h g a 0 := by
        intro g g2 g3
        unfold fi_new
        rw [if_neg (by omega)]
        by_cases ha0 : a = 0
        · rw [if_pos ha0, if_neg g2, if_neg g3]
        · rw [if_neg ha0]
      exact ⟨hq 0 (by omega) (by omega), hq 1 (by omega) (by omega), fun g hg _ => hq g (by have := fj_fin_ge hg; omega) (by have := fj_fin_ge hg; omega)⟩
    · unfold fi_new
      rw [if_neg (by have := hn.1; omega), if_neg (by omega)]
  · have h0 : 0 ≤ h 2 0 0 := Int.le_trans hJ hn.1
    have e2 := (ft_grid h n k h0).1
    refine ⟨⟨by rw [e2]; have := hn.1; omega, fun a ha g j => ?_⟩, by rw [e2]; omega, fun a ha => ?_, fun a h1 h2 g j => ?_⟩
    · rw [e2] at ha
      unfold fi_grid
      rw [if_neg (by omega), if_neg (by omega), if_neg (by omega)]
      exact hn.2 a (by omega) g j
    · have hq : ∀ g, g ≠ 2 → g ≠ 3 → fi_grid h n k g a 0 = h g a 0 := by
        intro g g2 g3
        unfold fi_grid
        rw [if_neg (by omega), if_neg (by omega)]
        by_cases ha0 : a = 0
        · rw [if_pos ha0, if_neg g2, if_neg g3]
        · rw [if_neg ha0]
      exact ⟨hq 0 (by omega) (by omega), hq 1 (by omega) (by omega), fun g hg _ => hq g (by have := fj_fin_ge hg; omega) (by have := fj_fin_ge hg; omega)⟩
    · unfold fi_grid
      rw [if_neg (by have := hn.1; omega), if_neg (by have := hn.1; omega), if_neg (by omega)]
theorem fj_nat0_ok {M : Nat} {h : fi_H} {a : List FV} {o : fi_O} {h' : fi_H} (hn : fj_nice h) (e : fi_nat0 M h a = some (some (o, h'))) : fj_nice h' ∧ fj_stb h h' := by
  unfold fi_nat0 at e
  repeat' (split at e)
  all_goals first
    | (cases e; exact ⟨hn, fj_stb_rf h⟩)
    | (cases e; done)
    | (cases e
       rename_i q
       have hJ : (0 : Int) ≤ (fi_J : Int) := by omega
       have hle := fj_nice_le hn (r := _) (by rw [q.2.2.2.2.1]; omega)
       refine ⟨⟨?_, fun b hb g j => ?_⟩, ?_, fun b hb => ⟨?_, ?_, fun g hg _ => ?_⟩, fun b h1 h2 g j => ?_⟩
       · simp only; rw [if_neg (by omega)]; exact hn.1
       · simp only at hb ⊢
         rw [if_neg (by omega)] at hb
         rw [if_neg (by omega)]; exact hn.2 b hb g j
       · simp
       · simp
       · simp
       · simp only; rw [if_neg (by have := fj_fin_ge hg; omega)]
       · simp only; rw [if_neg (by omega)])
theorem fj_go0_ok {call : fi_C} (hc : ∀ M h a o h', fj_nice h → call M h a = some (o, h') → fj_nice h' ∧ fj_stb h h') (M : Nat) : ∀ (n pc : Nat) (L : fi_L) (st : List FV) (h : fi_H) (o : fi_O) (h' : fi_H), fj_nice h → fj_go call M n pc L st h = some (o, h') → fj_nice h' ∧ fj_stb h h' := by
  intro n
  induction n with
  | zero => intro pc L st h o h' _ hr; rw [fj_go] at hr; cases hr
  | succ n ih =>
    intro pc L st h o h2 hn hr
    have ht : ∀ q h1, fj_nice h1 → fj_thr call M n pc L q h1 = some (o, h2) → fj_nice h2 ∧ fj_stb h1 h2 := by
      intro q h1 hn1 e
      unfold fj_thr at e
      split at e
      · split at e
        · cases e; exact ⟨hn1, fj_stb_rf _⟩
        · split at e
          · exact ih _ _ _ _ _ _ hn1 e
          · cases e
      · cases e
    rw [fj_go_eq] at hr
    cases hd : decode (fi_code M) pc with
    | error x => rw [hd] at hr; cases hr
    | ok x =>
      obtain ⟨ins, len⟩ := x
      rw [hd] at hr
      simp only at hr
      cases hrt : fi_rt M ins len st with
      | some v => rw [hrt] at hr; cases hr; exact ⟨hn, fj_stb_rf _⟩
      | none =>
        rw [hrt] at hr
        simp only at hr
        cases hcl : fi_cl M ins len st h with
        | some x =>
          obtain ⟨M', a, rr⟩ := x
          rw [hcl] at hr
          simp only at hr
          by_cases h8 : 8 < rr.length ∨ (fi_law ≤ M' ∧ M' < 1000)
          · rw [if_pos h8] at hr; cases hr
          rw [if_neg h8] at hr
          cases hcall : call M' h a with
          | none => rw [hcall] at hr; cases hr
          | some q =>
            obtain ⟨o1, h1⟩ := q
            rw [hcall] at hr
            obtain ⟨hn1, hs1⟩ := hc _ _ _ _ _ hn hcall
            cases o1 with
            | inl v =>
              simp only at hr
              by_cases hq : fj_tg v = fj_rk M'
              · rw [if_pos hq] at hr
                obtain ⟨a1, a2⟩ := ih _ _ _ _ _ _ hn1 hr
                exact ⟨a1, fj_stb_tr hs1 a2⟩
              · rw [if_neg hq] at hr; cases hr
            | inr q =>
              obtain ⟨a1, a2⟩ := ht _ _ hn1 hr
              exact ⟨a1, fj_stb_tr hs1 a2⟩
        | none =>
          rw [hcl] at hr
          simp only at hr
          by_cases hat : ∃ r0 st2, ins = .athrow ∧ st = (4, r0) :: st2
          · obtain ⟨r0, st2, rfl, rfl⟩ := hat
            simp only at hr
            by_cases hq : len = 1 ∧ r0 ≠ 0
            · rw [if_pos hq] at hr; exact ht _ _ hn hr
            · rw [if_neg hq] at hr; cases hr
          · rw [fj_nat hat] at hr
            by_cases hok : fj_ok M ins st h = true
            · rw [if_pos hok] at hr
              cases hst : fi_stp M ins len pc (fj_at M pc L) st h with
              | none => rw [hst] at hr; cases hr
              | some x =>
                obtain ⟨pc1, L1, st1, h1⟩ := x
                rw [hst] at hr
                obtain ⟨hn1, hs1⟩ := fj_hs_ok hn (fj_stp_hs hok hst)
                obtain ⟨a1, a2⟩ := ih _ _ _ _ _ _ hn1 hr
                exact ⟨a1, fj_stb_tr hs1 a2⟩
            · rw [if_neg hok] at hr; cases hr
theorem fj_ntv_ok {M : Nat} {h : fi_H} {a : List FV} {o : fi_O} {h' : fi_H} (hn : fj_nice h) (e : fj_ntv M h a = some (some (o, h'))) : fj_nice h' ∧ fj_stb h h' := by
  unfold fj_ntv at e
  split at e
  · have e := Option.some.inj e
    split at e
    · split at e
      · rename_i hg
        split at e
        · cases e
          refine fj_go0_ok ?_ fi_rintM 40 _ _ _ _ _ _ hn hg
          intro M h a o h' hn e
          unfold fi_call0 at e
          cases hq : fi_nat0 M h a with
          | none => rw [hq] at e; cases e
          | some q => rw [hq] at e; simp only at e; rw [e] at hq; exact fj_nat0_ok hn hq
        · cases e
      · cases e
    · cases e
  · exact fj_nat0_ok hn e
theorem fj_run_ok : ∀ (d M : Nat) (h : fi_H) (a : List FV) (o : fi_O) (h' : fi_H), fj_nice h → fj_run d M h a = some (o, h') → fj_nice h' ∧ fj_stb h h' := by
  intro d
  induction d with
  | zero => intro M h a o h' _ e; rw [fj_run] at e; cases e
  | succ d ih =>
    intro M h a o h' hn e
    cases hq : fj_ntv M h a with
    | some q => rw [fj_run] at e; simp only [hq] at e; rw [e] at hq; exact fj_ntv_ok hn hq
    | none =>
      rw [fj_run_iff _ _ _ _ hq] at e
      obtain ⟨-, n, e⟩ := e
      exact fj_go0_ok ih M n _ _ _ _ _ _ hn e
