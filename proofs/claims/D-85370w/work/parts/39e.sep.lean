/-! of every run: values stay in their ranges, references stay within a closed set of cells, nothing outside it is written -/
def fw_v (X : Nat → Prop) (top : Int) (v : FV) : Prop := fr_nv top v ∧ (v.1 = 4 → v.2 ≠ 0 → X v.2.toNat)
def fw_h (X : Nat → Prop) (h : fi_H) : Prop := (302 : Int) ≤ h 2 0 0 ∧ (∀ f a i, fr_nt (h 2 0 0) (fr_ty f) (h f a i)) ∧ (∀ f a i, X a → fr_ty f = 12 → h f a i ≠ 0 → X (h f a i).toNat) ∧ ∀ a, 0 ≤ h 1 a 0 ∧ h 1 a 0 < 65536
def fw_X (X : Nat → Prop) (top : Int) : Prop := (∀ a, 1 ≤ a → a ≤ 302 → X a) ∧ ∀ a : Nat, top < (a : Int) → X a
def fw_fr (X : Nat → Prop) (h h' : fi_H) : Prop := h 2 0 0 ≤ h' 2 0 0 ∧ ∀ a, ¬ X a → a ≠ 0 → ∀ f i, h' f a i = h f a i
theorem fw_fr_rf (X : Nat → Prop) (h : fi_H) : fw_fr X h h := ⟨Int.le_refl _, fun _ _ _ _ _ => rfl⟩
theorem fw_fr_tr {X : Nat → Prop} {a b c : fi_H} (h1 : fw_fr X a b) (h2 : fw_fr X b c) : fw_fr X a c := ⟨Int.le_trans h1.1 h2.1, fun x p q f i => (h2.2 x p q f i).trans (h1.2 x p q f i)⟩
theorem fw_X_le {X : Nat → Prop} {t t' : Int} (h : fw_X X t) (e : t ≤ t') : fw_X X t' := ⟨h.1, fun a ha => h.2 a (by omega)⟩
theorem fw_nv_le {t t' : Int} (e : t ≤ t') {v : FV} (h : fr_nv t v) : fr_nv t' v := by
  obtain ⟨k, x⟩ := v
  unfold fr_nv at h ⊢
  match k, h with
  | 0, h => exact h
  | 1, h => exact h
  | 2, h => exact h
  | 3, h => exact h
  | 4, h => exact ⟨h.1, Int.le_trans h.2 e⟩
  | 5, _ => trivial
  | n + 6, h => exact h
theorem fw_v_le {X : Nat → Prop} {t t' : Int} (e : t ≤ t') {v : FV} (h : fw_v X t v) : fw_v X t' v := ⟨fw_nv_le e h.1, h.2⟩
theorem fw_nt_le {t t' : Int} (e : t ≤ t') {k : Nat} {x : Int} (h : fr_nt t k x) : fr_nt t' k x := ⟨h.1, fun a b => fw_nv_le e (h.2 a b)⟩
theorem fw_v_i (X : Nat → Prop) (top : Int) (x : Int32) : fw_v X top (fi_i x) := ⟨fr_nv_i top x, fun e => by cases e⟩
theorem fw_v_l (X : Nat → Prop) (top : Int) (x : Int64) : fw_v X top (fi_l x) := ⟨fr_nv_l top x, fun e => by cases e⟩
theorem fw_v_f (X : Nat → Prop) (top : Int) (x : UInt32) : fw_v X top (fi_f x) := ⟨fr_nv_f top x, fun e => by cases e⟩
theorem fw_v_d (X : Nat → Prop) (top : Int) (x : UInt64) : fw_v X top (fi_d x) := ⟨fr_nv_d top x, fun e => by cases e⟩
theorem fw_v_0 (X : Nat → Prop) {top : Int} (h : 0 ≤ top) : fw_v X top (4, 0) := ⟨⟨Int.le_refl _, h⟩, fun _ e => absurd rfl e⟩
theorem fw_c0 (X : Nat → Prop) {top : Int} (h : 0 ≤ top) {ins : Instr} {len : Nat} {v : FV} (e : fi_c0 ins len = some v) : fw_v X top v := by
  unfold fi_c0 at e
  split at e
  · cases e; exact fw_v_i _ _ _
  · cases e; exact fw_v_i _ _ _
  · cases e; exact fw_v_i _ _ _
  · cases e; exact fw_v_l _ _ _
  · split at e
    · cases e; exact fw_v_f _ _ _
    · split at e
      · cases e; exact fw_v_f _ _ _
      · cases e
  · split at e
    · cases e; exact fw_v_d _ _ _
    · cases e; exact fw_v_d _ _ _
  · cases e; exact fw_v_0 X h
  · cases e
theorem fw_n64 (X : Nat → Prop) (top : Int) {u : UInt64} {v : FV} (e : fi_n64 u = some v) : fw_v X top v := by
  unfold fi_n64 at e
  split at e
  · cases e; exact fw_v_d _ _ _
  · cases e
theorem fw_b2 (X : Nat → Prop) (top : Int) {ins : Instr} {u w v : FV} (e : fi_b2 ins u w = some v) : fw_v X top v := by
  unfold fi_b2 at e
  split at e
  all_goals first
    | (cases e; exact fw_v_i _ _ _)
    | (cases e; exact fw_v_l _ _ _)
    | exact fw_n64 X top e
    | (split at e <;> first | (cases e; done) | (cases e; exact fw_v_i _ _ _) | (cases e; exact fw_v_l _ _ _))
    | (cases e; done)
theorem fw_u1 (X : Nat → Prop) (top : Int) {ins : Instr} {w v : FV} (e : fi_u1 ins w = some v) : fw_v X top v := by
  unfold fi_u1 at e
  split at e
  all_goals first
    | (cases e; exact fw_v_i _ _ _)
    | (cases e; exact fw_v_l _ _ _)
    | (cases e; exact fw_v_d _ _ _)
    | exact fw_n64 X top e
    | (cases e; done)
theorem fw_sh {ins : Instr} {st st' : List FV} (e : fi_sh ins st = some st') : ∀ v ∈ st', v ∈ st := by
  unfold fi_sh at e
  repeat' (split at e)
  all_goals first
    | (cases e; done)
    | (cases e; intro v hv; simp only [List.mem_cons] at hv ⊢; grind)
def fw_ct (v : FV) : Bool := match v.1 with
  | 0 => decide (-2147483648 ≤ v.2) && decide (v.2 < 2147483648)
  | 1 => decide (-9223372036854775808 ≤ v.2) && decide (v.2 < 9223372036854775808)
  | 2 => decide (0 ≤ v.2) && decide (v.2 < 4294967296)
  | 3 => decide (0 ≤ v.2) && decide (v.2 < 18446744073709551616)
  | 4 => decide (1 ≤ v.2) && decide (v.2 ≤ 302)
  | 5 => true
  | _ => false
theorem fw_ct_v {X : Nat → Prop} {top : Int} (hX : fw_X X top) (ht : 302 ≤ top) {v : FV} (e : fw_ct v = true) : fw_v X top v := by
  obtain ⟨k, x⟩ := v
  unfold fw_ct at e
  match k, e with
  | 0, e => simp only [Bool.and_eq_true, decide_eq_true_eq] at e; exact ⟨e, fun q => by cases q⟩
  | 1, e => simp only [Bool.and_eq_true, decide_eq_true_eq] at e; exact ⟨e, fun q => by cases q⟩
  | 2, e => simp only [Bool.and_eq_true, decide_eq_true_eq] at e; exact ⟨e, fun q => by cases q⟩
  | 3, e => simp only [Bool.and_eq_true, decide_eq_true_eq] at e; exact ⟨e, fun q => by cases q⟩
  | 4, e =>
    simp only [Bool.and_eq_true, decide_eq_true_eq] at e
    exact ⟨⟨by show 0 ≤ x; omega, by show x ≤ top; omega⟩, fun _ _ => hX.1 x.toNat (by omega) (by omega)⟩
  | 5, _ => exact ⟨trivial, fun q => by cases q⟩
  | n + 6, e => cases e
theorem fw_tab {α : Type} {T : List (List (Nat × α))} {p : α → Bool} (h : T.all (fun l => l.all (fun q => p q.2)) = true) {o i : Nat} {v : α} (e : (T.getD o []).lookup i = some v) : p v = true := by
  by_cases ho : o < T.length
  · have h1 : T.getD o [] ∈ T := by
      rw [List.getD_eq_getElem?_getD, List.getElem?_eq_getElem ho]
      exact List.getElem_mem ho
    have h2 := List.all_eq_true.mp h _ h1
    have h3 : ∀ (l : List (Nat × α)), l.lookup i = some v → (i, v) ∈ l := by
      intro l
      induction l with
      | nil => intro h; cases h
      | cons q l ih =>
        obtain ⟨j, w⟩ := q
        intro h
        rw [List.lookup_cons] at h
        cases e : (i == j) with
        | true => rw [e] at h; have := eq_of_beq e; subst this; cases h; simp
        | false => rw [e] at h; exact List.mem_cons_of_mem _ (ih h)
    exact List.all_eq_true.mp h2 _ (h3 _ e)
  · rw [List.getD_eq_getElem?_getD, List.getElem?_eq_none (Nat.le_of_not_lt ho)] at e
    cases e
theorem fw_sk {X : Nat → Prop} {top : Int} (hX : fw_X X top) (ht : 302 ≤ top) {o i : Nat} {v : FV} (e : fi_sk o i = some v) : fw_v X top v :=
  fw_ct_v hX ht (fw_tab (p := fw_ct) (by decide +kernel) e)
theorem fw_lk {X : Nat → Prop} {top : Int} (hX : fw_X X top) (ht : 302 ≤ top) {o i : Nat} {v : FV} (e : fi_lk o i = some v) : fw_v X top v :=
  fw_ct_v hX ht (fw_tab (p := fw_ct) (by decide +kernel) e)
theorem fw_fk {o i f : Nat} (e : fi_fk o i = some f) : 100 ≤ f ∧ 4 ≤ fi_ft f ∧ fi_ft f ≤ 12 := by
  have := fw_tab (p := fun f => decide (100 ≤ f ∧ 4 ≤ fi_ft f ∧ fi_ft f ≤ 12)) (T := fi_fkT) (by decide +kernel) e
  exact of_decide_eq_true this
theorem fw_tg12 {t : Nat} (h : fi_tg t = 4) : t = 12 := by
  unfold fi_tg at h
  repeat' (split at h)
  all_goals first | assumption | (cases h; done)
/-- a value that is read -/
theorem fw_rd {X : Nat → Prop} {h : fi_H} (H : fw_h X h) {f a i t : Nat} (ht : fr_ty f = t) (h4 : 4 ≤ t) (h12 : t ≤ 12) (hx : X a) : fw_v X (h 2 0 0) (fi_tg t, h f a i) := by
  have q := (H.2.1 f a i).2 (by omega) (by omega)
  rw [ht] at q
  exact ⟨q, fun e hne => H.2.2.1 f a i hx (by rw [ht]; exact fw_tg12 e) hne⟩
theorem fw_ty {f : Nat} (h : 100 ≤ f) : fr_ty f = fi_ft f := by unfold fr_ty; rw [if_neg (by omega)]
theorem fw_te {e : Nat} (h : e ≤ 12) : fr_ty e = e := by unfold fr_ty; rw [if_pos (by omega)]
/-- a value that is written -/
theorem fw_wr {X : Nat → Prop} {h : fi_H} (H : fw_h X h) {f a i t : Nat} {v : FV} (h4 : 4 ≤ f) (ht : fr_ty f = t) (ha : 302 < a) (hx : X a) (hv : fw_v X (h 2 0 0) v) (h1 : v.1 = fi_tg t) (h2 : fi_rg t v.2 = true) : fw_h X (fi_upd h f a i v.2) ∧ fw_fr X h (fi_upd h f a i v.2) := by
  have e0 : ∀ g, fi_upd h f a i v.2 g 0 0 = h g 0 0 := fun g => fi_upd_ne h f a i v.2 (fun q => by omega)
  refine ⟨⟨by rw [e0]; exact H.1, fun g b j => ?_, fun g b j hb hg hne => ?_, fun b => by rw [fi_upd_ne h f a i v.2 (fun q => by omega)]; exact H.2.2.2 b⟩, by rw [e0]; exact Int.le_refl _, fun b hb _ g j => fi_upd_ne h f a i v.2 (fun q => hb (by rw [q.2.1]; exact hx))⟩
  · rw [e0]
    by_cases q : g = f ∧ b = a ∧ j = i
    · obtain ⟨rfl, rfl, rfl⟩ := q
      rw [show fi_upd h g b j v.2 g b j = v.2 by unfold fi_upd; rw [if_pos ⟨rfl, rfl, rfl⟩], ht]
      refine ⟨h2, fun _ _ => ?_⟩
      rw [← h1]
      exact hv.1
    · rw [fi_upd_ne h f a i v.2 q]; exact H.2.1 g b j
  · by_cases q : g = f ∧ b = a ∧ j = i
    · obtain ⟨rfl, rfl, rfl⟩ := q
      rw [show fi_upd h g b j v.2 g b j = v.2 by unfold fi_upd; rw [if_pos ⟨rfl, rfl, rfl⟩]] at hne ⊢
      have : v.1 = 4 := by rw [h1, ← ht, hg]; rfl
      exact hv.2 this hne
    · rw [fi_upd_ne h f a i v.2 q] at hne ⊢; exact H.2.2.1 g b j hb hg hne
theorem fw_nt0 {top : Int} (h : 0 ≤ top) (t : Nat) : fr_nt top t 0 := by
  refine ⟨?_, fun h4 h12 => ?_⟩
  · unfold fi_rg; repeat' split
    all_goals simp
  · have : t = 4 ∨ t = 5 ∨ t = 6 ∨ t = 7 ∨ t = 8 ∨ t = 9 ∨ t = 10 ∨ t = 11 ∨ t = 12 := by omega
    rcases this with rfl | rfl | rfl | rfl | rfl | rfl | rfl | rfl | rfl <;> simp [fi_tg, fr_nv, fr_i32, fr_i64, h]
theorem fw_nt3 (top x : Int) {t : Nat} (h : t < 4) : fr_nt top t x := ⟨by unfold fi_rg; rw [if_neg (by omega), if_neg (by omega), if_neg (by omega), if_neg (by omega)], fun a => by omega⟩
theorem fw_new {X : Nat → Prop} {h : fi_H} (hX : fw_X X (h 2 0 0)) (H : fw_h X h) (k n len : Int) (hl : 0 ≤ len ∧ len < 65536) : fw_h X (fi_new h k n len) ∧ fw_fr X h (fi_new h k n len) := by
  have h0 : 0 ≤ h 2 0 0 := by have := H.1; omega
  have e2 := fi_new_top h k n len h0
  refine ⟨⟨by rw [e2]; have := H.1; omega, fun g b j => ?_, fun g b j hb hg hne => ?_, fun b => ?_⟩, by rw [e2]; omega, fun b hb hb0 g j => ?_⟩
  · rw [e2]
    unfold fi_new
    split
    · split
      · rename_i hg; exact fw_nt3 _ _ (by rw [hg]; unfold fr_ty; simp)
      · split
        · rename_i hg; exact fw_nt3 _ _ (by rw [hg]; unfold fr_ty; simp)
        · exact fw_nt0 (by omega) _
    · split
      · split
        · rename_i hg; exact fw_nt3 _ _ (by rw [hg]; unfold fr_ty; simp)
        · split
          · rename_i hg; exact fw_nt3 _ _ (by rw [hg]; unfold fr_ty; simp)
          · exact fw_nt_le (by omega) (H.2.1 g b j)
      · exact fw_nt_le (by omega) (H.2.1 g b j)
  · have hg2 : g ≠ 2 ∧ g ≠ 3 ∧ g ≠ 0 ∧ g ≠ 1 := by
      refine ⟨?_, ?_, ?_, ?_⟩ <;> (intro e; rw [e] at hg; unfold fr_ty at hg; simp at hg)
    unfold fi_new at hne ⊢
    split at hne
    · rw [if_neg hg2.2.2.1, if_neg hg2.2.2.2] at hne; exact absurd rfl hne
    · rename_i q1
      rw [if_neg q1]
      split at hne
      · rename_i q2
        rw [if_pos q2]
        rw [if_neg hg2.1, if_neg hg2.2.1] at hne ⊢
        exact H.2.2.1 g b j hb hg hne
      · rename_i q2
        rw [if_neg q2]
        exact H.2.2.1 g b j hb hg hne
  · unfold fi_new
    split
    · rw [if_neg (by omega), if_pos rfl]; exact hl
    · split
      · rw [if_neg (by omega), if_neg (by omega)]; exact H.2.2.2 b
      · exact H.2.2.2 b
  · unfold fi_new
    rw [if_neg (fun e => hb (hX.2 b (by omega))), if_neg hb0]
theorem fw_grid {X : Nat → Prop} {h : fi_H} (hX : fw_X X (h 2 0 0)) (H : fw_h X h) (n k : Int) (hn : 0 ≤ n ∧ n < 256 ∧ 0 ≤ k ∧ k < 256) : fw_h X (fi_grid h n k) ∧ fw_fr X h (fi_grid h n k) := by
  have h0 : 0 ≤ h 2 0 0 := by have := H.1; omega
  have e2 := (ft_grid h n k h0).1
  refine ⟨⟨by rw [e2]; have := H.1; omega, fun g b j => ?_, fun g b j hb hg hne => ?_, fun b => ?_⟩, by rw [e2]; omega, fun b hb hb0 g j => ?_⟩
  · rw [e2]
    unfold fi_grid
    split
    · split
      · rename_i hg; exact fw_nt3 _ _ (by rw [hg]; unfold fr_ty; simp)
      · split
        · rename_i hg; exact fw_nt3 _ _ (by rw [hg]; unfold fr_ty; simp)
        · split
          · rename_i hg
            rw [hg.1]
            exact ⟨rfl, fun _ _ => ⟨by show 0 ≤ h 2 0 0 + 2 + (j : Int); omega, by show h 2 0 0 + 2 + (j : Int) ≤ _; omega⟩⟩
          · exact fw_nt0 (by omega) _
    · split
      · split
        · rename_i hg; exact fw_nt3 _ _ (by rw [hg]; unfold fr_ty; simp)
        · split
          · rename_i hg; exact fw_nt3 _ _ (by rw [hg]; unfold fr_ty; simp)
          · exact fw_nt0 (by omega) _
      · split
        · split
          · rename_i hg; exact fw_nt3 _ _ (by rw [hg]; unfold fr_ty; simp)
          · split
            · rename_i hg; exact fw_nt3 _ _ (by rw [hg]; unfold fr_ty; simp)
            · exact fw_nt_le (by omega) (H.2.1 g b j)
        · exact fw_nt_le (by omega) (H.2.1 g b j)
  · have hg2 : g ≠ 2 ∧ g ≠ 3 ∧ g ≠ 0 ∧ g ≠ 1 := by
      refine ⟨?_, ?_, ?_, ?_⟩ <;> (intro e; rw [e] at hg; unfold fr_ty at hg; simp at hg)
    unfold fi_grid at hne ⊢
    split at hne
    · rename_i q1
      rw [if_pos q1]
      rw [if_neg hg2.2.2.1, if_neg hg2.2.2.2] at hne ⊢
      split at hne
      · rename_i q2
        rw [if_pos q2]
        exact hX.2 _ (by omega)
      · exact absurd rfl hne
    · rename_i q1
      rw [if_neg q1]
      split at hne
      · rename_i q2
        rw [if_neg hg2.2.2.1, if_neg hg2.2.2.2] at hne; exact absurd rfl hne
      · rename_i q2
        rw [if_neg q2]
        split at hne
        · rename_i q3
          rw [if_pos q3]
          rw [if_neg hg2.1, if_neg hg2.2.1] at hne ⊢
          exact H.2.2.1 g b j hb hg hne
        · rename_i q3
          rw [if_neg q3]
          exact H.2.2.1 g b j hb hg hne
  · unfold fi_grid
    split
    · rw [if_neg (by omega), if_pos rfl]; omega
    · split
      · rw [if_neg (by omega), if_pos rfl]; omega
      · split
        · rw [if_neg (by omega), if_neg (by omega)]; exact H.2.2.2 b
        · exact H.2.2.2 b
  · unfold fi_grid
    rw [if_neg (fun e => hb (hX.2 b (by omega))), if_neg (fun e => hb (hX.2 b (by omega))), if_neg hb0]
section FW
variable {X : Nat → Prop}
theorem fw_setv {top : Int} {L : fi_L} {v : FV} (hL : ∀ q ∈ L, fw_v X top q.2) (hv : fw_v X top v) (i : Nat) : ∀ q ∈ fi_set L i v, fw_v X top q.2 := by
  intro q hq
  unfold fi_set at hq
  split at hq
  · rcases List.mem_cons.mp hq with rfl | hq
    · exact hv
    · exact hL q (List.mem_filter.mp hq).1
  · rcases List.mem_cons.mp hq with rfl | hq
    · exact hv
    · exact hL q (List.mem_filter.mp hq).1
theorem fw_al_rg {ins : Instr} (h : fi_al ins ≠ 0) : fi_al ins = 10 ∨ fi_al ins = 11 ∨ fi_al ins = 6 ∨ fi_al ins = 7 ∨ fi_al ins = 12 ∨ fi_al ins = 1 ∨ fi_al ins = 5 ∨ fi_al ins = 9 := by
  unfold fi_al at h ⊢
  split <;> simp_all
/-- what a step may do -/
def fw_S (X : Nat → Prop) (h : fi_H) (L' : fi_L) (st' : List FV) (h' : fi_H) : Prop := fw_h X h' ∧ fw_fr X h h' ∧ (∀ q ∈ L', fw_v X (h' 2 0 0) q.2) ∧ ∀ v ∈ st', fw_v X (h' 2 0 0) v
theorem fw_same {h : fi_H} {L' : fi_L} {st' : List FV} (H : fw_h X h) (a : ∀ q ∈ L', fw_v X (h 2 0 0) q.2) (b : ∀ v ∈ st', fw_v X (h 2 0 0) v) : fw_S X h L' st' h := ⟨H, fw_fr_rf X h, a, b⟩
theorem fw_cons {top : Int} {v : FV} {st : List FV} (hv : fw_v X top v) (h : ∀ w ∈ st, fw_v X top w) : ∀ w ∈ v :: st, fw_v X top w := by
  intro w hw
  rcases List.mem_cons.mp hw with rfl | hw
  · exact hv
  · exact h w hw
theorem fw_ref {top : Int} {r : Int} (hv : fw_v X top (4, r)) (h : r ≠ 0) : X r.toNat := hv.2 rfl h
set_option maxHeartbeats 4000000 in
theorem fw_stp {M : Nat} {ins : Instr} {len pc : Nat} {L : fi_L} {st : List FV} {h : fi_H} {pc' : Nat} {L' : fi_L} {st' : List FV} {h' : fi_H} (hX : fw_X X (h 2 0 0)) (H : fw_h X h) (hL : ∀ q ∈ L, fw_v X (h 2 0 0) q.2) (hst : ∀ v ∈ st, fw_v X (h 2 0 0) v) (e : fi_stp M ins len pc L st h = some (pc', L', st', h')) : fw_S X h L' st' h' := by
  have ht := H.1
  have h0 : 0 ≤ h 2 0 0 := by omega
  have tl : ∀ {a : FV} {s : List FV}, st = a :: s → ∀ v ∈ s, fw_v X (h 2 0 0) v := fun e v hv => hst v (by rw [e]; simp [hv])
  have newS : ∀ (k n len : Int) (s : List FV), (0 ≤ len ∧ len < 65536) → (∀ v ∈ s, fw_v X (h 2 0 0) v) → fw_S X h L ((4, h 2 0 0 + 1) :: s) (fi_new h k n len) := by
    intro k n len s hl hs
    obtain ⟨a1, a2⟩ := fw_new hX H k n len hl
    have e2 := fi_new_top h k n len h0
    refine ⟨a1, a2, fun q hq => fw_v_le a2.1 (hL q hq), fw_cons ⟨⟨by show 0 ≤ h 2 0 0 + 1; omega, by rw [e2]; exact Int.le_refl _⟩, fun _ _ => hX.2 _ (by omega)⟩ (fun w hw => fw_v_le a2.1 (hs w hw))⟩
  unfold fi_stp at e
  split at e
  · rename_i v hv
    cases e
    exact fw_same H hL (fw_cons (fw_c0 X h0 hv) hst)
  split at e
  · split at e
    · rename_i v hv
      split at e
      · cases e
        exact fw_same H hL (fw_cons (hL _ (fj_lkm hv)) hst)
      · cases e
    · cases e
  split at e
  · rename_i i t hit
    split at e
    · rename_i v st2
      by_cases hok : (fi_okt t v.1 && decide (i + (if fi_wide v then 1 else 0) < fi_nl M)) = true
      · rw [if_pos hok] at e
        cases e
        exact fw_same H (fw_setv hL (hst v (by simp)) _) (fun w hw => hst w (by simp [hw]))
      · rw [if_neg hok] at e; cases e
    · cases e
  split at e
  · -- iinc
    split at e
    · split at e
      · split at e
        · cases e
          exact fw_same H (fw_setv hL (fw_v_i _ _ _) _) hst
        · cases e
      · cases e
    · cases e
  · split at e
    · obtain ⟨t, -, e2⟩ := ft_map e; cases e2; exact fw_same H hL hst
    · cases e
  · split at e
    · split at e
      · cases e; exact fw_same H hL (fun w hw => hst w (by simp [hw]))
      · cases e
    · cases e
  · split at e
    · split at e
      · cases e; exact fw_same H hL (fun w hw => hst w (by simp [hw]))
      · cases e
    · cases e
  · split at e
    · split at e
      · cases e; exact fw_same H hL (fun w hw => hst w (by simp [hw]))
      · cases e
    · cases e
  · split at e
    · split at e
      · cases e; exact fw_same H hL (fun w hw => hst w (by simp [hw]))
      · cases e
    · cases e
  · split at e
    · split at e
      · cases e; exact fw_same H hL (fun w hw => hst w (by simp [hw]))
      · cases e
    · cases e
  · -- tableswitch
    split at e
    · split at e
      · obtain ⟨t, -, e2⟩ := ft_map e; cases e2; exact fw_same H hL (fun w hw => hst w (by simp [hw]))
      · split at e
        · obtain ⟨t, -, e2⟩ := ft_map e; cases e2; exact fw_same H hL (fun w hw => hst w (by simp [hw]))
        · cases e
    · cases e
  · split at e
    · split at e
      · obtain ⟨t, -, e2⟩ := ft_map e; cases e2; exact fw_same H hL (fun w hw => hst w (by simp [hw]))
      · cases e
    · cases e
  · split at e
    · split at e
      · rename_i v hv
        split at e
        · cases e
        · cases e; exact fw_same H hL (fw_cons (fw_lk hX ht hv) hst)
      · cases e
    · cases e
  · split at e
    · split at e
      · rename_i v hv
        split at e
        · cases e
        · cases e; exact fw_same H hL (fw_cons (fw_lk hX ht hv) hst)
      · cases e
    · cases e
  · split at e
    · split at e
      · rename_i v hv
        split at e
        · cases e; exact fw_same H hL (fw_cons (fw_lk hX ht hv) hst)
        · cases e
      · cases e
    · cases e
  · split at e
    · split at e
      · rename_i v hv
        cases e; exact fw_same H hL (fw_cons (fw_sk hX ht hv) hst)
      · cases e
    · cases e
  · -- getfield
    split at e
    · split at e
      · rename_i r st2 f hf
        split at e
        · cases e
        · rename_i hr
          split at e
          · cases e
            obtain ⟨f1, f2, f3⟩ := fw_fk hf
            exact fw_same H hL (fw_cons (fw_rd H (fw_ty f1) f2 f3 (fw_ref (hst (4, r) (by simp)) hr)) (fun w hw => hst w (by simp [hw])))
          · cases e
      · cases e
    · cases e
  · -- putfield
    split at e
    · split at e
      · rename_i v r st2 f hf
        split at e
        · cases e
        · rename_i hr
          split at e
          · rename_i hq
            cases e
            simp only [Bool.and_eq_true, decide_eq_true_eq] at hq
            obtain ⟨f1, f2, f3⟩ := fw_fk hf
            have hJ : (fi_J : Int) = 302 := rfl
            obtain ⟨a1, a2⟩ := fw_wr (i := 0) H (by omega) (fw_ty f1) (a := r.toNat) (by omega) (fw_ref (hst (4, r) (by simp)) (by omega)) (hst v (by simp)) (eq_of_beq hq.1.1.1.2) hq.1.1.2
            exact ⟨a1, a2, fun q hq => fw_v_le a2.1 (hL q hq), fun w hw => fw_v_le a2.1 (hst w (by simp [hw]))⟩
          · cases e
      · cases e
    · cases e
  · -- arraylength
    split at e
    · split at e
      · split at e
        · cases e
        · split at e
          · rename_i r st2 hr hk
            cases e
            refine fw_same H hL (fw_cons ⟨?_, fun q => by cases q⟩ (fun w hw => hst w (by simp [hw])))
            have q := H.2.2.2 r.toNat
            exact ⟨by show -2147483648 ≤ h 1 r.toNat 0; omega, by show h 1 r.toNat 0 < 2147483648; omega⟩
          · cases e
      · cases e
    · cases e
  · -- new
    split at e
    · split at e
      · split at e
        · cases e; exact newS _ _ _ _ ⟨by omega, by omega⟩ hst
        · cases e
      · cases e
    · cases e
  · split at e
    · split at e
      · split at e
        · rename_i q; cases e; exact newS _ _ _ _ q (fun w hw => hst w (by simp [hw]))
        · cases e
      · cases e
    · cases e
  · split at e
    · split at e
      · split at e
        · rename_i q; cases e; exact newS _ _ _ _ ⟨q.1, q.2.1⟩ (fun w hw => hst w (by simp [hw]))
        · cases e
      · cases e
    · cases e
  · split at e
    · split at e
      · split at e
        · rename_i n k st2 _ q
          cases e
          obtain ⟨a1, a2⟩ := fw_grid hX H _ _ q
          have e2 := (ft_grid h k n h0).1
          refine ⟨a1, a2, fun q hq => fw_v_le a2.1 (hL q hq), fw_cons ⟨⟨by show 0 ≤ h 2 0 0 + 1; omega, by rw [e2]; show h 2 0 0 + 1 ≤ _; omega⟩, fun _ _ => hX.2 _ (by omega)⟩ (fun w hw => fw_v_le a2.1 (hst w (by simp [hw])))⟩
        · cases e
      · cases e
    · cases e
  · split at e
    · split at e
      · split at e
        · cases e; exact fw_same H hL (fw_cons (hst _ (by simp)) (fun w hw => hst w (by simp [hw])))
        · cases e
      · cases e
    · cases e
  · split at e
    · split at e
      · split at e
        · cases e; exact fw_same H hL (fw_cons ⟨⟨by show (-2147483648 : Int) ≤ 0; omega, by show (0 : Int) < 2147483648; omega⟩, fun q => by cases q⟩ (fun w hw => hst w (by simp [hw])))
        · split at e
          · rename_i b _
            cases e
            refine fw_same H hL (fw_cons ⟨?_, fun q => by cases q⟩ (fun w hw => hst w (by simp [hw])))
            cases b
            · exact ⟨by show (-2147483648 : Int) ≤ 0; omega, by show (0 : Int) < 2147483648; omega⟩
            · exact ⟨by show (-2147483648 : Int) ≤ 1; omega, by show (1 : Int) < 2147483648; omega⟩
          · cases e
      · cases e
    · cases e
  · split at e
    · split at e
      · rename_i hal
        split at e
        · rename_i i r st2
          split at e
          · cases e
          · rename_i hr
            split at e
            · rename_i hq
              cases e
              obtain ⟨g1, g2, -⟩ := fj_et_rg hq.1 (fw_al_rg hal)
              exact fw_same H hL (fw_cons (fw_rd H (fw_te g2) g1 g2 (fw_ref (hst (4, r) (by simp)) hr)) (fun w hw => hst w (by simp [hw])))
            · cases e
        · cases e
      · split at e
        · rename_i has
          split at e
          · rename_i v i r st2
            split at e
            · cases e
            · rename_i hr
              split at e
              · rename_i hq
                cases e
                obtain ⟨g1, g2, -⟩ := fj_et_rg hq.1 (fj_as_rg has)
                have hJ : (fi_J : Int) = 302 := rfl
                obtain ⟨a1, a2⟩ := fw_wr (i := i.toNat) H g1 (fw_te g2) (a := r.toNat) (by omega) (fw_ref (hst (4, r) (by simp)) (by omega)) (hst v (by simp)) hq.2.2.2.1 hq.2.2.2.2.1
                exact ⟨a1, a2, fun q hq => fw_v_le a2.1 (hL q hq), fun w hw => fw_v_le a2.1 (hst w (by simp [hw]))⟩
              · cases e
          · cases e
        · split at e
          · rename_i st2 hsh
            cases e
            exact fw_same H hL (fun w hw => hst w (fw_sh hsh w hw))
          · split at e
            · rename_i b a st2
              split at e
              · rename_i v hv
                cases e
                exact fw_same H hL (fw_cons (fw_b2 X _ hv) (fun w hw => hst w (by simp [hw])))
              · obtain ⟨v, hv, e2⟩ := ft_map e
                cases e2
                exact fw_same H hL (fw_cons (fw_u1 X _ hv) (fun w hw => hst w (by simp at hw ⊢; rcases hw with hw | hw <;> simp [hw])))
            · obtain ⟨v, hv, e2⟩ := ft_map e
              cases e2
              exact fw_same H hL (fw_cons (fw_u1 X _ hv) (fun w hw => hst w (by simp [hw])))
            · cases e
    · cases e
/-- what a call may do -/
def fw_O (X : Nat → Prop) (top : Int) (o : fi_O) : Prop := match o with
  | .inl v => ∀ w, v = some w → fw_v X top w
  | .inr q => fw_v X top (4, (q : Int)) 
def fw_C (X : Nat → Prop) (call : fi_C) : Prop := ∀ M h a o h', fw_X X (h 2 0 0) → fw_h X h → (∀ v ∈ a, fw_v X (h 2 0 0) v) → call M h a = some (o, h') → fw_h X h' ∧ fw_fr X h h' ∧ fw_O X (h' 2 0 0) o
theorem fw_cla {M : Nat} {ins : Instr} {len : Nat} {st : List FV} {h : fi_H} {M' : Nat} {a r : List FV} (e : fi_cl M ins len st h = some (M', a, r)) : ∀ w ∈ a, w ∈ st := by
  unfold fi_cl at e
  repeat' (split at e)
  all_goals first
    | (cases e; done)
    | (rename_i hpop; cases e; obtain ⟨e1, -⟩ := fi_pop_eq _ _ _ _ hpop; intro w hw; rw [e1]; simp [hw])
    | (rename_i hpop _; cases e; obtain ⟨e1, -⟩ := fi_pop_eq _ _ _ _ hpop; intro w hw; rw [e1]; simp at hw ⊢; rcases hw with hw | hw <;> simp [hw])
    | (rename_i hpop _ _ _ _; cases e; obtain ⟨e1, -⟩ := fi_pop_eq _ _ _ _ hpop; intro w hw; rw [e1]; simp at hw ⊢; rcases hw with hw | hw <;> simp [hw])
theorem fw_atv {M pc : Nat} {top : Int} {L : fi_L} (hL : ∀ q ∈ L, fw_v X top q.2) : ∀ q ∈ fj_at M pc L, fw_v X top q.2 := by
  unfold fj_at
  split
  · intro q hq
    unfold fj_norm at hq
    obtain ⟨i, -, e⟩ := List.mem_filterMap.mp hq
    cases hl : L.lookup i with
    | none => rw [hl] at e; cases e
    | some v => rw [hl] at e; cases e; exact hL _ (fj_lkm hl)
  · exact hL
theorem fw_rtv {M : Nat} {ins : Instr} {len : Nat} {st : List FV} {v : Option FV} (e : fi_rt M ins len st = some v) : ∀ w, v = some w → w ∈ st := by
  unfold fi_rt at e
  repeat' (split at e)
  all_goals first
    | (cases e; done)
    | (cases e; intro w hw; cases hw; done)
    | (cases e; intro w hw; cases hw; simp)
theorem fw_go {call : fi_C} (hc : fw_C X call) (M : Nat) : ∀ (n pc : Nat) (L : fi_L) (st : List FV) (h : fi_H) (o : fi_O) (h' : fi_H), fw_X X (h 2 0 0) → fw_h X h → (∀ q ∈ L, fw_v X (h 2 0 0) q.2) → (∀ v ∈ st, fw_v X (h 2 0 0) v) → fj_go call M n pc L st h = some (o, h') → fw_h X h' ∧ fw_fr X h h' ∧ fw_O X (h' 2 0 0) o := by
  intro n
  induction n with
  | zero => intro pc L st h o h' _ _ _ _ hr; rw [fj_go] at hr; cases hr
  | succ n ih =>
    intro pc L st h o h2 hX H hL hst hr
    have ht : ∀ (q : Nat) (h1 : fi_H), fw_X X (h1 2 0 0) → fw_h X h1 → (∀ q ∈ L, fw_v X (h1 2 0 0) q.2) → fw_v X (h1 2 0 0) (4, (q : Int)) → fj_thr call M n pc L q h1 = some (o, h2) → fw_h X h2 ∧ fw_fr X h1 h2 ∧ fw_O X (h2 2 0 0) o := by
      intro q h1 hX1 H1 hL1 hq e
      unfold fj_thr at e
      split at e
      · split at e
        · cases e; exact ⟨H1, fw_fr_rf _ _, hq⟩
        · split at e
          · exact ih _ _ _ _ _ _ hX1 H1 (fw_atv hL1) (fw_cons hq (fun _ h => by cases h)) e
          · cases e
      · cases e
    rw [fj_go_eq] at hr
    cases hd : decode (fi_code M) pc with
    | error x => rw [hd] at hr; cases hr
    | ok x =>
      obtain ⟨ins, len⟩ := x
      rw [hd] at hr
      simp only at hr
      cases hrt : fi_rt M ins len st with
      | some v =>
        rw [hrt] at hr
        cases hr
        exact ⟨H, fw_fr_rf _ _, fun w hw => hst w (fw_rtv hrt w hw)⟩
      | none =>
        rw [hrt] at hr
        simp only at hr
        cases hcl : fi_cl M ins len st h with
        | some x =>
          obtain ⟨M', a, rr⟩ := x
          rw [hcl] at hr
          simp only at hr
          by_cases h8 : 8 < rr.length ∨ (fi_law ≤ M' ∧ M' < 1000)
          · rw [if_pos h8] at hr; cases hr
          rw [if_neg h8] at hr
          cases hcall : call M' h a with
          | none => rw [hcall] at hr; cases hr
          | some q =>
            obtain ⟨o1, h1⟩ := q
            rw [hcall] at hr
            obtain ⟨H1, F1, O1⟩ := hc _ _ _ _ _ hX H (fun w hw => hst w (fw_cla hcl w hw)) hcall
            have hX1 := fw_X_le hX F1.1
            have hL1 : ∀ q ∈ L, fw_v X (h1 2 0 0) q.2 := fun q hq => fw_v_le F1.1 (hL q hq)
            cases o1 with
            | inl v =>
              simp only at hr
              by_cases hq : fj_tg v = fj_rk M'
              · rw [if_pos hq] at hr
                obtain ⟨b1, b2, b3⟩ := ih _ _ _ _ _ _ hX1 H1 (fw_atv hL1) (by
                  intro w hw
                  rcases List.mem_append.mp hw with hw | hw
                  · cases v with
                    | none => cases hw
                    | some y => simp at hw; subst hw; exact O1 w rfl
                  · exact fw_v_le F1.1 (hst w (fi_cl_rest hcl w hw))) hr
                exact ⟨b1, fw_fr_tr F1 b2, b3⟩
              · rw [if_neg hq] at hr; cases hr
            | inr q =>
              obtain ⟨b1, b2, b3⟩ := ht _ _ hX1 H1 hL1 O1 hr
              exact ⟨b1, fw_fr_tr F1 b2, b3⟩
        | none =>
          rw [hcl] at hr
          simp only at hr
          by_cases hat : ∃ r0 st2, ins = .athrow ∧ st = (4, r0) :: st2
          · obtain ⟨r0, st2, rfl, rfl⟩ := hat
            simp only at hr
            by_cases hq : len = 1 ∧ r0 ≠ 0
            · rw [if_pos hq] at hr
              have hv := hst (4, r0) (by simp)
              have h0 : 0 ≤ r0 := hv.1.1
              exact ht _ _ hX H hL (by rw [show ((r0.toNat : Nat) : Int) = r0 by omega]; exact hv) hr
            · rw [if_neg hq] at hr; cases hr
          · rw [fj_nat hat] at hr
            by_cases hok : fj_ok M ins st h = true
            · rw [if_pos hok] at hr
              cases hs : fi_stp M ins len pc (fj_at M pc L) st h with
              | none => rw [hs] at hr; cases hr
              | some x =>
                obtain ⟨pc1, L1, st1, h1⟩ := x
                rw [hs] at hr
                obtain ⟨H1, F1, a1, a2⟩ := fw_stp hX H (fw_atv hL) hst hs
                obtain ⟨b1, b2, b3⟩ := ih _ _ _ _ _ _ (fw_X_le hX F1.1) H1 a1 a2 hr
                exact ⟨b1, fw_fr_tr F1 b2, b3⟩
            · rw [if_neg hok] at hr; cases hr
theorem fw_none {top : Int} : fw_O X top (.inl none) := fun w e => by cases e
theorem fw_one {top : Int} {v : FV} (h : fw_v X top v) : fw_O X top (.inl (some v)) := fun w e => by cases e; exact h
theorem fw_nat0 {M : Nat} {h : fi_H} {a : List FV} {o : fi_O} {h' : fi_H} (H : fw_h X h) (ha : ∀ v ∈ a, fw_v X (h 2 0 0) v) (e : fi_nat0 M h a = some (some (o, h'))) : fw_h X h' ∧ fw_fr X h h' ∧ fw_O X (h' 2 0 0) o := by
  unfold fi_nat0 at e
  repeat' (split at e)
  all_goals first
    | (cases e; exact ⟨H, fw_fr_rf X h, fw_none⟩)
    | (cases e; exact ⟨H, fw_fr_rf X h, fw_one (fw_v_d _ _ _)⟩)
    | (cases e; exact ⟨H, fw_fr_rf X h, fw_one (fw_v_l _ _ _)⟩)
    | (cases e; exact ⟨H, fw_fr_rf X h, fw_one (fw_v_f _ _ _)⟩)
    | (cases e; done)
    | (cases e
       rename_i s sp t tp n q
       have ht := ha (4, t) (by simp)
       have hJ : (fi_J : Int) = 302 := rfl
       have hx : X t.toNat := ht.2 rfl (by show t ≠ 0; omega)
       refine ⟨⟨?_, fun f b i => ?_, fun f b i hb hf hne => ?_, fun b => ?_⟩, ⟨?_, fun b hb hb0 f i => ?_⟩, fw_none⟩
       · simp only; rw [if_neg (by omega)]; exact H.1
       · simp only
         rw [if_neg (show ¬ (2 = 8 ∧ _) by omega)]
         split
         · rename_i q2; rw [q2.1]; exact H.2.1 8 _ _
         · exact H.2.1 f b i
       · have f8 : f ≠ 8 := by intro e; rw [e] at hf; unfold fr_ty at hf; simp at hf
         simp only at hne ⊢
         rw [if_neg (fun q => f8 q.1)] at hne ⊢
         exact H.2.2.1 f b i hb hf hne
       · simp only; rw [if_neg (by omega)]; exact H.2.2.2 b
       · simp only; rw [if_neg (by omega)]; exact Int.le_refl _
       · simp only; rw [if_neg (fun q => hb (by have : b = t.toNat := by omega
                                                rw [this]; exact hx))])
theorem fw_ntv {M : Nat} {h : fi_H} {a : List FV} {o : fi_O} {h' : fi_H} (hX : fw_X X (h 2 0 0)) (H : fw_h X h) (ha : ∀ v ∈ a, fw_v X (h 2 0 0) v) (e : fj_ntv M h a = some (some (o, h'))) : fw_h X h' ∧ fw_fr X h h' ∧ fw_O X (h' 2 0 0) o := by
  unfold fj_ntv at e
  split at e
  · have e := Option.some.inj e
    split at e
    · rename_i x
      split at e
      · rename_i r h1 hg
        split at e
        · cases e
          refine fw_go (call := fi_call0) ?_ fi_rintM 40 _ _ _ _ _ _ hX H ?_ (fun _ h => by cases h) hg
          · intro M h a o h' _ H ha e
            unfold fi_call0 at e
            cases hq : fi_nat0 M h a with
            | none => rw [hq] at e; cases e
            | some q => rw [hq] at e; simp only at e; rw [e] at hq; exact fw_nat0 H ha hq
          · intro q hq
            simp [fi_args] at hq
            subst hq
            exact ha _ (by simp)
        · cases e
      · cases e
    · cases e
  · exact fw_nat0 H ha e
theorem fw_argv {top : Int} : ∀ (a : List FV) (i : Nat), (∀ v ∈ a, fw_v X top v) → ∀ q ∈ fi_args i a, fw_v X top q.2
  | [], _, _, q, hq => by cases hq
  | v :: vs, i, h, q, hq => by
    rcases List.mem_cons.mp hq with rfl | hq
    · exact h v (by simp)
    · exact fw_argv vs _ (fun w hw => h w (by simp [hw])) q hq
theorem fw_run : ∀ d, fw_C X (fj_run d) := by
  intro d
  induction d with
  | zero => intro M h a o h' _ _ _ e; rw [fj_run] at e; cases e
  | succ d ih =>
    intro M h a o h' hX H ha e
    cases hq : fj_ntv M h a with
    | some q => rw [fj_run] at e; simp only [hq] at e; rw [e] at hq; exact fw_ntv hX H ha hq
    | none =>
      rw [fj_run_iff _ _ _ _ hq] at e
      obtain ⟨-, n, e⟩ := e
      exact fw_go ih M n _ _ _ _ _ _ hX H (fw_argv a 0 ha) (fun _ h => by cases h) e
end FW
