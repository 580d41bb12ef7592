/-! the second interpreter: as the first, but at chosen points only the live locals are kept, a final field is written once, and an answer is of the kind that is declared -/
def fj_norm (lv : List Nat) (L : fi_L) : fi_L := lv.filterMap (fun i => (L.lookup i).map (fun v => (i, v)))
def fj_cut (M pc : Nat) : Option (List Nat) := (fj_cutT.getD M []).lookup pc
def fj_at (M pc : Nat) (L : fi_L) : fi_L := match fj_cut M pc with | some lv => fj_norm lv L | none => L
def fj_fin (f : Nat) : Bool := match fi_fn[f - 100]? with | some q => q.2.2.2 | none => false
/-- the longest arrays that a method makes -/
def fj_al (M : Nat) : Int := if M = 147 ∨ M = 218 ∨ M = 224 ∨ M = 460 then 64 else if M = 259 then 4 else 65536
theorem fj_al_le (M : Nat) : fj_al M ≤ 65536 := by unfold fj_al; (repeat' split) <;> omega
def fj_ok (M : Nat) (ins : Instr) (st : List FV) (h : fi_H) : Bool := match ins, st with
  | .putfield i, _ :: (4, r) :: _ => (match fi_fk (fi_ow M) i with | some f => !(fj_fin f) || decide (h f r.toNat 0 = 0) | none => true)
  | .newarray _, (0, n) :: _ => decide (n < fj_al M)
  | .anewarray _, (0, n) :: _ => decide (n < fj_al M)
  | _, _ => true
def fj_tg (v : Option FV) : Nat := match v with | none => 0 | some w => w.1 + 1
def fj_ft : Option FieldType → Nat
  | none => 0 | some .long => 2 | some .float => 3 | some .double => 4 | some (.object _) => 5 | some (.array _) => 5 | some _ => 1
def fj_rk (M : Nat) : Nat := if M < 1000 then fj_ft (fi_ret M) else if M = 1001 ∨ M = 1006 ∨ M = 1007 ∨ M = 1008 then 4 else if M = 1002 then 2 else if M = 1003 then 3 else if M = 1004 then 5 else 0
def fj_go (call : fi_C) (M : Nat) : Nat → Nat → fi_L → List FV → fi_H → Option (fi_O × fi_H)
  | 0, _, _, _, _ => none
  | n + 1, pc, L, st, h =>
    let thr : Nat → fi_H → Option (fi_O × fi_H) := fun r h => if 100 ≤ h 0 r 0 ∧ h 0 r 0 < 134 then match fi_hat M pc with
      | none => some (.inr r, h)
      | some (_, _, hp, ct) => if ct = 0 ∨ fi_ck (fi_ow M) ct = some (h 0 r 0).toNat then fj_go call M n hp (fj_at M pc L) [(4, (r : Int))] h else none
      else none
    match decode (fi_code M) pc with
    | .ok (ins, len) =>
      match fi_rt M ins len st with
      | some v => some (.inl v, h)
      | none => match fi_cl M ins len st h with
        | some (M', a, r) => if 8 < r.length ∨ (fi_law ≤ M' ∧ M' < 1000) then none else match call M' h a with
          | some (.inl v, h') => if fj_tg v = fj_rk M' then fj_go call M n (pc + len) (fj_at M pc L) (v.toList ++ r) h' else none
          | some (.inr q, h') => thr q h'
          | none => none
        | none => match ins, st with
          | .athrow, (4, r) :: _ => if len = 1 ∧ r ≠ 0 then thr r.toNat h else none
          | _, _ => if fj_ok M ins st h = true then match fi_stp M ins len pc (fj_at M pc L) st h with
            | some (pc', L', st', h') => fj_go call M n pc' L' st' h'
            | none => none else none
    | .error _ => none
def fj_ntv (M : Nat) (h : fi_H) (a : List FV) : Option (Option (fi_O × fi_H)) :=
  if M = 1007 then some (match a with
    | [(3, x)] => match fj_go fi_call0 fi_rintM 40 0 (fi_args 0 [(3, x)]) [] h with
      | some (.inl (some (3, r)), h') => if (h' 2 0 0 = h 2 0 0 ∧ h' 3 0 0 = h 3 0 0) ∧ fi_nn (fi_D r) = true then some (.inl (some (3, r)), h') else none
      | _ => none
    | _ => none)
  else fi_nat0 M h a
noncomputable def fj_run : Nat → fi_C
  | 0 => fun _ _ _ => none
  | d + 1 => fun M h a => match fj_ntv M h a with
    | some r => r
    | none => if fi_aw a ≤ fi_nl M then fi_lim (fun n => fj_go (fj_run d) M n 0 (fi_args 0 a) [] h) else none
def fj_thr (call : fi_C) (M n pc : Nat) (L : fi_L) (r : Nat) (h : fi_H) : Option (fi_O × fi_H) := if 100 ≤ h 0 r 0 ∧ h 0 r 0 < 134 then match fi_hat M pc with
  | none => some (.inr r, h)
  | some (_, _, hp, ct) => if ct = 0 ∨ fi_ck (fi_ow M) ct = some (h 0 r 0).toNat then fj_go call M n hp (fj_at M pc L) [(4, (r : Int))] h else none
  else none
theorem fj_go_eq (call : fi_C) (M n pc : Nat) (L : fi_L) (st : List FV) (h : fi_H) : fj_go call M (n + 1) pc L st h =
    match decode (fi_code M) pc with
    | .ok (ins, len) =>
      match fi_rt M ins len st with
      | some v => some (.inl v, h)
      | none => match fi_cl M ins len st h with
        | some (M', a, r) => if 8 < r.length ∨ (fi_law ≤ M' ∧ M' < 1000) then none else match call M' h a with
          | some (.inl v, h') => if fj_tg v = fj_rk M' then fj_go call M n (pc + len) (fj_at M pc L) (v.toList ++ r) h' else none
          | some (.inr q, h') => fj_thr call M n pc L q h'
          | none => none
        | none => match ins, st with
          | .athrow, (4, r) :: _ => if len = 1 ∧ r ≠ 0 then fj_thr call M n pc L r.toNat h else none
          | _, _ => if fj_ok M ins st h = true then match fi_stp M ins len pc (fj_at M pc L) st h with
            | some (pc', L', st', h') => fj_go call M n pc' L' st' h'
            | none => none else none
    | .error _ => none := by
  rw [fj_go]
  rfl
/-! fewer locals, the same run -/
def fj_coh (L : fi_L) : Prop := ∀ q ∈ L, L.lookup q.1 = some q.2
def fj_sub (L L' : fi_L) : Prop := fj_coh L' ∧ ∀ q ∈ L, q ∈ L'
theorem fj_lkm {L : fi_L} {i : Nat} {v : FV} (h : L.lookup i = some v) : (i, v) ∈ L := by
  induction L with
  | nil => cases h
  | cons q L ih =>
    obtain ⟨j, w⟩ := q
    rw [List.lookup_cons] at h
    cases e : (i == j) with
    | true =>
      rw [e] at h
      have := eq_of_beq e
      subst this
      cases h
      simp
    | false =>
      rw [e] at h
      exact List.mem_cons_of_mem _ (ih h)
theorem fj_sub_lk {L L' : fi_L} (h : fj_sub L L') {i : Nat} {v : FV} (e : L.lookup i = some v) : L'.lookup i = some v := h.1 _ (h.2 _ (fj_lkm e))
theorem fj_some_lk {L : fi_L} {i : Nat} {v : FV} (h : (i, v) ∈ L) : ∃ w, L.lookup i = some w := by
  induction L with
  | nil => cases h
  | cons q L ih =>
    obtain ⟨j, w⟩ := q
    rw [List.lookup_cons]
    cases e : (i == j) with
    | true => exact ⟨_, rfl⟩
    | false =>
      rcases List.mem_cons.mp h with h | h
      · cases h; simp at e
      · exact ih h
theorem fj_coh_filter {L : fi_L} (h : fj_coh L) (c : Nat × FV → Bool) : fj_coh (L.filter c) := by
  intro q hq
  obtain ⟨w, hw⟩ := fj_some_lk (L := L.filter c) (i := q.1) (v := q.2) hq
  have h1 := (List.mem_filter.mp (fj_lkm hw)).1
  have h2 := h _ h1
  have h3 := h _ (List.mem_filter.mp hq).1
  simp only at h2
  rw [hw]
  rw [h2] at h3
  exact h3
theorem fj_coh_cons {L : fi_L} (h : fj_coh L) {i : Nat} (hi : ∀ q ∈ L, q.1 ≠ i) (v : FV) : fj_coh ((i, v) :: L) := by
  intro q hq
  rw [List.lookup_cons]
  rcases List.mem_cons.mp hq with rfl | hq
  · simp
  · have hb : (q.1 == i) = false := by simpa using hi q hq
    rw [hb]
    exact h q hq
theorem fj_sub_set {L L' : fi_L} (h : fj_sub L L') (i : Nat) (v : FV) : fj_sub (fi_set L i v) (fi_set L' i v) := by
  unfold fi_set
  by_cases hw : fi_wide v = true
  · rw [if_pos hw, if_pos hw]
    refine ⟨fj_coh_cons (fj_coh_filter h.1 _) ?_ v, ?_⟩
    · intro q hq e
      have := (List.mem_filter.mp hq).2
      simp [e] at this
    · intro q hq
      rcases List.mem_cons.mp hq with rfl | hq
      · simp
      · obtain ⟨a, b⟩ := List.mem_filter.mp hq
        exact List.mem_cons_of_mem _ (List.mem_filter.mpr ⟨h.2 q a, b⟩)
  · rw [if_neg hw, if_neg hw]
    refine ⟨fj_coh_cons (fj_coh_filter h.1 _) ?_ v, ?_⟩
    · intro q hq e
      have := (List.mem_filter.mp hq).2
      simp [e] at this
    · intro q hq
      rcases List.mem_cons.mp hq with rfl | hq
      · simp
      · obtain ⟨a, b⟩ := List.mem_filter.mp hq
        exact List.mem_cons_of_mem _ (List.mem_filter.mpr ⟨h.2 q a, b⟩)
theorem fj_sub_at {L L' : fi_L} (h : fj_sub L L') (M pc : Nat) : fj_sub (fj_at M pc L) L' := by
  unfold fj_at
  split
  · refine ⟨h.1, ?_⟩
    intro q hq
    unfold fj_norm at hq
    obtain ⟨i, -, e⟩ := List.mem_filterMap.mp hq
    cases hl : L.lookup i with
    | none => rw [hl] at e; cases e
    | some v => rw [hl] at e; cases e; exact h.2 _ (fj_lkm hl)
  · exact h
theorem fj_coh_args : ∀ (a : List FV) (i : Nat), fj_coh (fi_args i a) ∧ ∀ q ∈ fi_args i a, i ≤ q.1
  | [], _ => ⟨fun q hq => (by cases hq), fun q hq => (by cases hq)⟩
  | v :: vs, i => by
    have ih := fj_coh_args vs (if fi_wide v then i + 2 else i + 1)
    have hlt : i < (if fi_wide v then i + 2 else i + 1) := by split <;> omega
    rw [fi_args]
    refine ⟨fj_coh_cons ih.1 (fun q hq e => ?_) v, ?_⟩
    · have := ih.2 q hq; omega
    · intro q hq
      rcases List.mem_cons.mp hq with rfl | hq
      · exact Nat.le_refl _
      · have := ih.2 q hq; omega
/-- a step with more locals -/
theorem fj_stp_sub {M : Nat} {ins : Instr} {len pc : Nat} {L L' : fi_L} {st : List FV} {h : fi_H} {pc' : Nat} {L1 : fi_L} {st' : List FV} {h' : fi_H} (hs : fj_sub L L') (e : fi_stp M ins len pc L st h = some (pc', L1, st', h')) : ∃ L2, fi_stp M ins len pc L' st h = some (pc', L2, st', h') ∧ fj_sub L1 L2 := by
  by_cases hl : ∃ q, fi_ld ins len = some q
  · obtain ⟨⟨i, t⟩, hl⟩ := hl
    unfold fi_stp at e ⊢
    split at e
    · cases e; exact ⟨_, rfl, hs⟩
    · rw [hl] at e ⊢
      simp only at e ⊢
      split at e
      · rename_i v hv
        rw [fj_sub_lk hs hv]
        simp only
        split at e
        · rename_i ho; cases e; rw [if_pos ho]; exact ⟨_, rfl, hs⟩
        · cases e
      · cases e
  by_cases hst : ∃ q, fi_st ins len = some q
  · obtain ⟨⟨i, t⟩, hst⟩ := hst
    unfold fi_stp at e ⊢
    split at e
    · cases e; exact ⟨_, rfl, hs⟩
    · split at e
      · rename_i q hq; exact absurd ⟨_, hq⟩ hl
      rw [hst] at e ⊢
      simp only at e ⊢
      split at e
      · rename_i v st2
        by_cases ho : (fi_okt t v.1 && decide (i + (if fi_wide v then 1 else 0) < fi_nl M)) = true
        · rw [if_pos ho] at e ⊢; cases e; exact ⟨_, rfl, fj_sub_set hs _ _⟩
        · rw [if_neg ho] at e; cases e
      · cases e
  have hl : fi_ld ins len = none := by
    cases q : fi_ld ins len with
    | none => rfl
    | some x => exact absurd ⟨_, q⟩ hl
  have hst : fi_st ins len = none := by
    cases q : fi_st ins len with
    | none => rfl
    | some x => exact absurd ⟨_, q⟩ hst
  by_cases hi : ∃ i n, ins = .iinc i n
  · obtain ⟨i, n, rfl⟩ := hi
    unfold fi_stp at e ⊢
    simp only [hl, hst, fi_c0] at e ⊢
    split at e
    · rename_i hlen
      rw [if_pos hlen]
      split at e
      · rename_i x hv
        rw [fj_sub_lk hs hv]
        simp only
        split at e
        · rename_i ho; cases e; rw [if_pos ho]; exact ⟨_, rfl, fj_sub_set hs _ _⟩
        · cases e
      · cases e
    · cases e
  have key : ∀ (A B : fi_L), fi_stp M ins len pc A st h = (fi_stp M ins len pc B st h).map (fun q => (q.1, A, q.2.2.1, q.2.2.2)) := by
    intro A B
    unfold fi_stp
    rw [hl, hst]
    split
    · rfl
    · simp only
      split
      · exact absurd ⟨_, _, rfl⟩ hi
      all_goals (repeat' split) <;> first | rfl | (rw [Option.map_map]; rfl) | simp_all
  have k1 := key L []
  have k2 := key L' []
  rw [k1] at e
  cases e3 : fi_stp M ins len pc [] st h with
  | none => rw [e3] at e; cases e
  | some q =>
    rw [e3] at e k2
    cases e
    exact ⟨L', k2, hs⟩
theorem fj_nat {α : Type} {ins : Instr} {st : List FV} {A : Int → List FV → α} {B : α} : (¬ ∃ r0 st2, ins = .athrow ∧ st = (4, r0) :: st2) → (match ins, st with | .athrow, (4, r) :: s => A r s | _, _ => B) = B := by
  intro hat
  split
  · exact absurd ⟨_, _, rfl, rfl⟩ hat
  · rfl
/-- the second interpreter's run is the first one's -/
theorem fj_to {call call' : fi_C} (hc : ∀ M h a r, call M h a = some r → call' M h a = some r) (M : Nat) : ∀ (n pc : Nat) (L L' : fi_L) (st : List FV) (h : fi_H) (r : fi_O × fi_H), fj_sub L L' → fj_go call M n pc L st h = some r → fi_go call' M n pc L' st h = some r := by
  intro n
  induction n with
  | zero => intro pc L L' st h r _ hr; rw [fj_go] at hr; cases hr
  | succ n ih =>
    intro pc L L' st h r hs hr
    have hs' := fj_sub_at hs M pc
    have ht : ∀ q h', fj_thr call M n pc L q h' = some r → fi_thr call' M n pc L' q h' = some r := by
      intro q h' e
      unfold fj_thr at e
      unfold fi_thr
      by_cases hk : 100 ≤ h' 0 q 0 ∧ h' 0 q 0 < 134
      · rw [if_pos hk] at e ⊢
        cases hh : fi_hat M pc with
        | none => rw [hh] at e; exact e
        | some x =>
          obtain ⟨x1, x2, hp, ct⟩ := x
          rw [hh] at e
          simp only at e ⊢
          by_cases hq : ct = 0 ∨ fi_ck (fi_ow M) ct = some (h' 0 q 0).toNat
          · rw [if_pos hq] at e ⊢; exact ih _ _ _ _ _ _ hs' e
          · rw [if_neg hq] at e; cases e
      · rw [if_neg hk] at e; cases e
    rw [fj_go_eq] at hr
    rw [fi_go_eq]
    cases hd : decode (fi_code M) pc with
    | error x => rw [hd] at hr; cases hr
    | ok x =>
      obtain ⟨ins, len⟩ := x
      rw [hd] at hr
      simp only at hr ⊢
      cases hrt : fi_rt M ins len st with
      | some v => rw [hrt] at hr; exact hr
      | none =>
        rw [hrt] at hr
        simp only at hr ⊢
        cases hcl : fi_cl M ins len st h with
        | some x =>
          obtain ⟨M', a, rr⟩ := x
          rw [hcl] at hr
          simp only at hr ⊢
          by_cases h8 : 8 < rr.length ∨ (fi_law ≤ M' ∧ M' < 1000)
          · rw [if_pos h8] at hr; cases hr
          rw [if_neg h8] at hr ⊢
          cases hcall : call M' h a with
          | none => rw [hcall] at hr; cases hr
          | some q =>
            obtain ⟨o, h'⟩ := q
            rw [hcall] at hr
            rw [hc _ _ _ _ hcall]
            cases o with
            | inl v =>
              simp only at hr ⊢
              by_cases hq : fj_tg v = fj_rk M'
              · rw [if_pos hq] at hr; exact ih _ _ _ _ _ _ hs' hr
              · rw [if_neg hq] at hr; cases hr
            | inr q => exact ht _ _ hr
        | none =>
          rw [hcl] at hr
          simp only at hr ⊢
          by_cases hat : ∃ r0 st2, ins = .athrow ∧ st = (4, r0) :: st2
          · obtain ⟨r0, st2, rfl, rfl⟩ := hat
            simp only at hr ⊢
            by_cases hq : len = 1 ∧ r0 ≠ 0
            · rw [if_pos hq] at hr ⊢; exact ht _ _ hr
            · rw [if_neg hq] at hr; cases hr
          · rw [fj_nat hat] at hr
            split
            · exact absurd ⟨_, _, rfl, rfl⟩ hat
            by_cases hok : fj_ok M ins st h = true
            · rw [if_pos hok] at hr
              cases hst : fi_stp M ins len pc (fj_at M pc L) st h with
              | none => rw [hst] at hr; cases hr
              | some x =>
                obtain ⟨pc1, L1, st1, h1⟩ := x
                rw [hst] at hr
                obtain ⟨L2, e2, s2⟩ := fj_stp_sub hs' hst
                rw [e2]
                exact ih _ _ _ _ _ _ s2 hr
            · rw [if_neg hok] at hr; cases hr
theorem fj_mono {call call' : fi_C} (hc : ∀ M h a r, call M h a = some r → call' M h a = some r) (M : Nat) : ∀ (n m pc : Nat) (L : fi_L) (st : List FV) (h : fi_H) (r : fi_O × fi_H), n ≤ m → fj_go call M n pc L st h = some r → fj_go call' M m pc L st h = some r := by
  intro n
  induction n with
  | zero => intro m pc L st h r _ hr; rw [fj_go] at hr; cases hr
  | succ n ih =>
    intro m pc L st h r hm hr
    obtain ⟨m', rfl⟩ : ∃ m', m = m' + 1 := ⟨m - 1, by omega⟩
    have hm' : n ≤ m' := by omega
    have ht : ∀ q h', fj_thr call M n pc L q h' = some r → fj_thr call' M m' pc L q h' = some r := by
      intro q h' e
      unfold fj_thr at e
      unfold fj_thr
      by_cases hk : 100 ≤ h' 0 q 0 ∧ h' 0 q 0 < 134
      · rw [if_pos hk] at e ⊢
        cases hh : fi_hat M pc with
        | none => rw [hh] at e; exact e
        | some x =>
          obtain ⟨x1, x2, hp, ct⟩ := x
          rw [hh] at e
          simp only at e ⊢
          by_cases hq : ct = 0 ∨ fi_ck (fi_ow M) ct = some (h' 0 q 0).toNat
          · rw [if_pos hq] at e ⊢; exact ih _ _ _ _ _ _ hm' e
          · rw [if_neg hq] at e; cases e
      · rw [if_neg hk] at e; cases e
    rw [fj_go_eq] at hr
    rw [fj_go_eq]
    cases hd : decode (fi_code M) pc with
    | error x => rw [hd] at hr; cases hr
    | ok x =>
      obtain ⟨ins, len⟩ := x
      rw [hd] at hr
      simp only at hr ⊢
      cases hrt : fi_rt M ins len st with
      | some v => rw [hrt] at hr; exact hr
      | none =>
        rw [hrt] at hr
        simp only at hr ⊢
        cases hcl : fi_cl M ins len st h with
        | some x =>
          obtain ⟨M', a, rr⟩ := x
          rw [hcl] at hr
          simp only at hr ⊢
          by_cases h8 : 8 < rr.length ∨ (fi_law ≤ M' ∧ M' < 1000)
          · rw [if_pos h8] at hr; cases hr
          rw [if_neg h8] at hr ⊢
          cases hcall : call M' h a with
          | none => rw [hcall] at hr; cases hr
          | some q =>
            obtain ⟨o, h'⟩ := q
            rw [hcall] at hr
            rw [hc _ _ _ _ hcall]
            cases o with
            | inl v =>
              simp only at hr ⊢
              by_cases hq : fj_tg v = fj_rk M'
              · rw [if_pos hq] at hr ⊢; exact ih _ _ _ _ _ _ hm' hr
              · rw [if_neg hq] at hr; cases hr
            | inr q => exact ht _ _ hr
        | none =>
          rw [hcl] at hr
          simp only at hr ⊢
          by_cases hat : ∃ r0 st2, ins = .athrow ∧ st = (4, r0) :: st2
          · obtain ⟨r0, st2, rfl, rfl⟩ := hat
            simp only at hr ⊢
            by_cases hq : len = 1 ∧ r0 ≠ 0
            · rw [if_pos hq] at hr ⊢; exact ht _ _ hr
            · rw [if_neg hq] at hr; cases hr
          · rw [fj_nat hat] at hr
            rw [fj_nat hat]
            by_cases hok : fj_ok M ins st h = true
            · rw [if_pos hok] at hr
              cases hst : fi_stp M ins len pc (fj_at M pc L) st h with
              | none => rw [hst] at hr; cases hr
              | some x =>
                obtain ⟨pc1, L1, st1, h1⟩ := x
                rw [hst] at hr
                rw [if_pos hok]
                exact ih _ _ _ _ _ _ hm' hr
            · rw [if_neg hok] at hr; cases hr
theorem fj_go_mono {call : fi_C} (M : Nat) (n m pc : Nat) (L : fi_L) (st : List FV) (h : fi_H) (r : fi_O × fi_H) (hm : n ≤ m) (hr : fj_go call M n pc L st h = some r) : fj_go call M m pc L st h = some r := fj_mono (fun _ _ _ _ q => q) M n m pc L st h r hm hr
theorem fj_ntv_none {M : Nat} (hM : M < 1000) (h : fi_H) (a : List FV) : fj_ntv M h a = none := by
  have := fi_nat_none hM h a
  unfold fi_nat at this
  unfold fj_ntv
  rw [if_neg (by omega)] at this ⊢
  exact this
theorem fj_ntv_ge {M : Nat} (hM : 1000 ≤ M) (h : fi_H) (a : List FV) : ∃ q, fj_ntv M h a = some q := by
  by_cases h7 : M = 1007
  · unfold fj_ntv; rw [if_pos h7]; exact ⟨_, rfl⟩
  · obtain ⟨q, hq⟩ := fi_nat_some hM h a
    unfold fi_nat at hq
    rw [if_neg h7] at hq
    unfold fj_ntv
    rw [if_neg h7]
    exact ⟨q, hq⟩
theorem fj_ntv_to {M : Nat} {h : fi_H} {a : List FV} {r : fi_O × fi_H} (e : fj_ntv M h a = some (some r)) : fi_nat M h a = some (some r) := by
  unfold fj_ntv at e
  unfold fi_nat
  by_cases h7 : M = 1007
  · rw [if_pos h7] at e ⊢
    replace e := Option.some.inj e
    refine congrArg some ?_
    split at e
    · rename_i x
      cases hg : fj_go fi_call0 fi_rintM 40 0 (fi_args 0 [(3, x)]) [] h with
      | none => rw [hg] at e; cases e
      | some y =>
        have hg2 := fj_to (call := fi_call0) (call' := fi_call0) (fun _ _ _ _ q => q) fi_rintM 40 0 _ _ _ _ _ ⟨(fj_coh_args [(3, x)] 0).1, fun q hq => hq⟩ hg
        rw [hg] at e
        simp only
        rw [hg2]
        exact e
    · cases e
  · rw [if_neg h7] at e ⊢; exact e
theorem fj_run_iff (d M : Nat) (h : fi_H) (a : List FV) (hn : fj_ntv M h a = none) (r : fi_O × fi_H) : fj_run (d + 1) M h a = some r ↔ fi_aw a ≤ fi_nl M ∧ ∃ n, fj_go (fj_run d) M n 0 (fi_args 0 a) [] h = some r := by
  rw [fj_run]
  simp only [hn]
  by_cases hw : fi_aw a ≤ fi_nl M
  · rw [if_pos hw, fi_lim_iff (fun n m r hnm e => fj_go_mono M n m _ _ _ _ _ hnm e) r]
    exact ⟨fun h => ⟨hw, h⟩, fun h => h.2⟩
  · rw [if_neg hw]
    exact ⟨fun h => (by cases h), fun h => absurd h.1 hw⟩
theorem fj_le : ∀ (d M : Nat) (h : fi_H) (a : List FV) (r : fi_O × fi_H), fj_run d M h a = some r → fi_run d M h a = some r := by
  intro d
  induction d with
  | zero => intro M h a r e; rw [fj_run] at e; cases e
  | succ d ih =>
    intro M h a r e
    by_cases hM : M < 1000
    · have hn := fj_ntv_none hM h a
      rw [fj_run_iff _ _ _ _ hn] at e
      rw [fi_run_iff _ _ _ _ (fi_nat_none hM h a)]
      obtain ⟨hw, n, e⟩ := e
      exact ⟨hw, n, fj_to ih M n _ _ _ _ _ _ ⟨(fj_coh_args a 0).1, fun q hq => hq⟩ e⟩
    · obtain ⟨q, hq⟩ := fj_ntv_ge (M := M) (by omega) h a
      rw [fj_run] at e
      simp only [hq] at e
      rw [e] at hq
      rw [fi_run]
      simp only [fj_ntv_to hq]
/-! a method's run from a point on, without a bound on its steps -/
noncomputable def gG (call : fi_C) (M pc : Nat) (L : fi_L) (st : List FV) (h : fi_H) : Option (fi_O × fi_H) := fi_lim (fun n => fj_go call M n pc L st h)
theorem gG_iff (call : fi_C) (M pc : Nat) (L : fi_L) (st : List FV) (h : fi_H) (r : fi_O × fi_H) : gG call M pc L st h = some r ↔ ∃ n, fj_go call M n pc L st h = some r := fi_lim_iff (fun n m r hnm e => fj_go_mono M n m _ _ _ _ _ hnm e) r
theorem gG_ext {x y : Option (fi_O × fi_H)} (e : ∀ r, x = some r ↔ y = some r) : x = y := by
  cases x with
  | none => cases y with
    | none => rfl
    | some b => exact ((e b).mpr rfl)
  | some a => exact ((e a).mp rfl).symm
/-- a point that goes over to another one -/
theorem gG_nx {call : fi_C} {M pc : Nat} {L : fi_L} {st : List FV} {h : fi_H} {pc' : Nat} {L' : fi_L} {st' : List FV} {h' : fi_H} (e : ∀ n, fj_go call M (n + 1) pc L st h = fj_go call M n pc' L' st' h') : gG call M pc L st h = gG call M pc' L' st' h' := by
  apply gG_ext
  intro r
  rw [gG_iff, gG_iff]
  constructor
  · rintro ⟨n, hn⟩
    cases n with
    | zero => rw [fj_go] at hn; cases hn
    | succ n => rw [e] at hn; exact ⟨n, hn⟩
  · rintro ⟨n, hn⟩
    exact ⟨n + 1, by rw [e]; exact hn⟩
theorem gG_cn {call : fi_C} {M pc : Nat} {L : fi_L} {st : List FV} {h : fi_H} {x : Option (fi_O × fi_H)} (e : ∀ n, fj_go call M (n + 1) pc L st h = x) : gG call M pc L st h = x := by
  apply gG_ext
  intro r
  rw [gG_iff]
  constructor
  · rintro ⟨n, hn⟩
    cases n with
    | zero => rw [fj_go] at hn; cases hn
    | succ n => rw [e] at hn; exact hn
  · intro hx
    exact ⟨1, by rw [e]; exact hx⟩
noncomputable def gT (call : fi_C) (M pc : Nat) (L : fi_L) (r : Nat) (h : fi_H) : Option (fi_O × fi_H) := if 100 ≤ h 0 r 0 ∧ h 0 r 0 < 134 then match fi_hat M pc with
  | none => some (.inr r, h)
  | some (_, _, hp, ct) => if ct = 0 ∨ fi_ck (fi_ow M) ct = some (h 0 r 0).toNat then gG call M hp (fj_at M pc L) [(4, (r : Int))] h else none
  else none
theorem gG_th {call : fi_C} {M pc : Nat} {L L1 : fi_L} {st : List FV} {h h1 : fi_H} {q : Nat} (e : ∀ n, fj_go call M (n + 1) pc L1 st h = fj_thr call M n pc L q h1) : gG call M pc L1 st h = gT call M pc L q h1 := by
  unfold gT
  by_cases hk : 100 ≤ h1 0 q 0 ∧ h1 0 q 0 < 134
  · rw [if_pos hk]
    cases hh : fi_hat M pc with
    | none => exact gG_cn (fun n => by rw [e]; unfold fj_thr; rw [if_pos hk, hh])
    | some x =>
      obtain ⟨a, b, hp, ct⟩ := x
      simp only
      by_cases hc : ct = 0 ∨ fi_ck (fi_ow M) ct = some (h1 0 q 0).toNat
      · rw [if_pos hc]
        exact gG_nx (fun n => by rw [e]; unfold fj_thr; rw [if_pos hk, hh]; simp only; rw [if_pos hc])
      · rw [if_neg hc]
        exact gG_cn (fun n => by rw [e]; unfold fj_thr; rw [if_pos hk, hh]; simp only; rw [if_neg hc])
  · rw [if_neg hk]
    exact gG_cn (fun n => by rw [e]; unfold fj_thr; rw [if_neg hk])
/-- one step, as an equation -/
theorem gG_eq (call : fi_C) (M pc : Nat) (L : fi_L) (st : List FV) (h : fi_H) : gG call M pc L st h =
    match decode (fi_code M) pc with
    | .ok (ins, len) =>
      match fi_rt M ins len st with
      | some v => some (.inl v, h)
      | none => match fi_cl M ins len st h with
        | some (M', a, r) => if 8 < r.length ∨ (fi_law ≤ M' ∧ M' < 1000) then none else match call M' h a with
          | some (.inl v, h') => if fj_tg v = fj_rk M' then gG call M (pc + len) (fj_at M pc L) (v.toList ++ r) h' else none
          | some (.inr q, h') => gT call M pc L q h'
          | none => none
        | none => match ins, st with
          | .athrow, (4, r) :: _ => if len = 1 ∧ r ≠ 0 then gT call M pc L r.toNat h else none
          | _, _ => if fj_ok M ins st h = true then match fi_stp M ins len pc (fj_at M pc L) st h with
            | some (pc', L', st', h') => gG call M pc' L' st' h'
            | none => none else none
    | .error _ => none := by
  have E := fun n => fj_go_eq call M n pc L st h
  cases hd : decode (fi_code M) pc with
  | error x => simp only [hd] at E; exact gG_cn E
  | ok x =>
    obtain ⟨ins, len⟩ := x
    simp only [hd] at E
    simp only
    cases hr : fi_rt M ins len st with
    | some v => simp only [hr] at E; exact gG_cn E
    | none =>
      simp only [hr] at E
      simp only
      cases hcl : fi_cl M ins len st h with
      | some x =>
        obtain ⟨M', a, r⟩ := x
        simp only [hcl] at E
        simp only
        by_cases h8 : 8 < r.length ∨ (fi_law ≤ M' ∧ M' < 1000)
        · simp only [if_pos h8] at E ⊢; exact gG_cn E
        simp only [if_neg h8] at E ⊢
        cases hc : call M' h a with
        | none => simp only [hc] at E; exact gG_cn E
        | some x =>
          obtain ⟨o, h'⟩ := x
          simp only [hc] at E
          cases o with
          | inl v =>
            simp only at E ⊢
            by_cases ht : fj_tg v = fj_rk M'
            · simp only [if_pos ht] at E ⊢; exact gG_nx E
            · simp only [if_neg ht] at E ⊢; exact gG_cn E
          | inr q => exact gG_th E
      | none =>
        simp only [hcl] at E
        by_cases hat : ∃ r0 st2, ins = .athrow ∧ st = (4, r0) :: st2
        · obtain ⟨r0, st2, rfl, rfl⟩ := hat
          simp only at E ⊢
          by_cases hq : len = 1 ∧ r0 ≠ 0
          · simp only [if_pos hq] at E ⊢; exact gG_th E
          · simp only [if_neg hq] at E ⊢; exact gG_cn E
        · simp only [fj_nat hat] at E
          rw [fj_nat hat]
          by_cases hok : fj_ok M ins st h = true
          · simp only [if_pos hok] at E ⊢
            cases hs : fi_stp M ins len pc (fj_at M pc L) st h with
            | none => simp only [hs] at E; exact gG_cn E
            | some x =>
              obtain ⟨pc', L', st', h'⟩ := x
              simp only [hs] at E
              exact gG_nx E
          · simp only [if_neg hok] at E ⊢; exact gG_cn E
theorem fj_run_eq (d : Nat) {M : Nat} (hM : M < 1000) (h : fi_H) (a : List FV) (hw : fi_aw a ≤ fi_nl M) : fj_run (d + 1) M h a = gG (fj_run d) M 0 (fi_args 0 a) [] h := by
  apply gG_ext
  intro r
  rw [fj_run_iff d M h a (fj_ntv_none hM h a), gG_iff]
  exact ⟨fun q => q.2, fun q => ⟨hw, q⟩⟩
theorem fj_run_nat (d : Nat) {M : Nat} {h : fi_H} {a : List FV} {q : Option (fi_O × fi_H)} (e : fj_ntv M h a = some q) : fj_run (d + 1) M h a = q := by
  rw [fj_run]; simp only [e]
theorem fj_run_mono : ∀ (d M : Nat) (h : fi_H) (a : List FV) (r : fi_O × fi_H), fj_run d M h a = some r → fj_run (d + 1) M h a = some r := by
  intro d
  induction d with
  | zero => intro M h a r e; rw [fj_run] at e; cases e
  | succ d ih =>
    intro M h a r e
    cases hn : fj_ntv M h a with
    | some q => rw [fj_run] at e ⊢; simp only [hn] at e ⊢; exact e
    | none =>
      rw [fj_run_iff _ _ _ _ hn] at e ⊢
      obtain ⟨hw, n, e⟩ := e
      exact ⟨hw, n, fj_mono ih M n n _ _ _ _ _ (Nat.le_refl _) e⟩
theorem fj_run_le {d d' : Nat} (hd : d ≤ d') {M : Nat} {h : fi_H} {a : List FV} {r : fi_O × fi_H} (e : fj_run d M h a = some r) : fj_run d' M h a = some r := by
  induction hd with
  | refl => exact e
  | step _ ih => exact fj_run_mono _ _ _ _ _ ih
