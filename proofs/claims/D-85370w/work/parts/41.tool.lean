/-! rules for runs: heaps in order, one side, both sides -/
set_option maxRecDepth 100000
def fw_all : Nat → Prop := fun _ => True
/-- a heap in order: the fixed cells, and every value in its type's range -/
def Hp (h : fi_H) : Prop := Shp h ∧ fw_h fw_all h
theorem fw_X_all (t : Int) : fw_X fw_all t := ⟨fun _ _ _ => trivial, fun _ _ => trivial⟩
def sh_cl (a : Nat) : Bool := sh_L.any (fun c => c.any (fun q => (q.1 == 0 && q.2.1 == a) && (q.2.2.1 == 0 && decide (0 < q.2.2.2))))
theorem sh_cl_all : (List.range 412).all (fun k => sh_cl (303 + k)) = true := by decide +kernel
theorem shC {h : fi_H} (H : Shp h) {a : Nat} (h1 : 302 < a) (h2 : a ≤ 714) : 0 < h 0 a 0 := by
  have e := List.all_eq_true.mp sh_cl_all (a - 303) (List.mem_range.mpr (by omega))
  have e2 : 303 + (a - 303) = a := by omega
  simp only [e2] at e
  obtain ⟨c, hc, e⟩ := List.any_eq_true.mp e
  obtain ⟨q, hq, e⟩ := List.any_eq_true.mp e
  simp only [Bool.and_eq_true, beq_iff_eq, decide_eq_true_eq] at e
  obtain ⟨⟨e1, e2⟩, e3, e4⟩ := e
  have := sh_P_mem.mp (sh_PL_mem.mp H.2.2.2 c hc) q hq
  rw [e1, e2, e3] at this
  omega
section RG
variable {h : fi_H}
theorem rI (H : Hp h) {f : Nat} (hf : fr_ty f = 10) (a i : Nat) : -2147483648 ≤ h f a i ∧ h f a i < 2147483648 := by have := (H.2.2.1 f a i).2; rw [hf] at this; exact this (by omega) (by omega)
theorem rJ (H : Hp h) {f : Nat} (hf : fr_ty f = 11) (a i : Nat) : -9223372036854775808 ≤ h f a i ∧ h f a i < 9223372036854775808 := by have := (H.2.2.1 f a i).2; rw [hf] at this; exact this (by omega) (by omega)
theorem rZ (H : Hp h) {f : Nat} (hf : fr_ty f = 4) (a i : Nat) : h f a i = 0 ∨ h f a i = 1 := by have := (H.2.2.1 f a i).1; rw [hf] at this; simpa [fi_rg] using this
theorem rC (H : Hp h) {f : Nat} (hf : fr_ty f = 5) (a i : Nat) : 0 ≤ h f a i ∧ h f a i < 65536 := by have := (H.2.2.1 f a i).1; rw [hf] at this; simpa [fi_rg] using this
theorem rB (H : Hp h) {f : Nat} (hf : fr_ty f = 8) (a i : Nat) : -128 ≤ h f a i ∧ h f a i < 128 := by have := (H.2.2.1 f a i).1; rw [hf] at this; simpa [fi_rg] using this
theorem rS (H : Hp h) {f : Nat} (hf : fr_ty f = 9) (a i : Nat) : -32768 ≤ h f a i ∧ h f a i < 32768 := by have := (H.2.2.1 f a i).1; rw [hf] at this; simpa [fi_rg] using this
theorem rR (H : Hp h) {f : Nat} (hf : fr_ty f = 12) (a i : Nat) : 0 ≤ h f a i ∧ h f a i ≤ h 2 0 0 := by have := (H.2.2.1 f a i).2; rw [hf] at this; exact this (by omega) (by omega)
theorem r7 (H : Hp h) {f : Nat} (hf : fr_ty f = 7) (a i : Nat) : 0 ≤ h f a i ∧ h f a i < 18446744073709551616 := by have := (H.2.2.1 f a i).2; rw [hf] at this; exact this (by omega) (by omega)
theorem r6 (H : Hp h) {f : Nat} (hf : fr_ty f = 6) (a i : Nat) : 0 ≤ h f a i ∧ h f a i < 4294967296 := by have := (H.2.2.1 f a i).2; rw [hf] at this; exact this (by omega) (by omega)
theorem Hp.run (H : Hp h) {d M : Nat} {a : List FV} {o : fi_O} {h' : fi_H} (ha : ∀ v ∈ a, fw_v fw_all (h 2 0 0) v) (e : fj_run d M h a = some (o, h')) : Hp h' :=
  ⟨shp_st H.1 (fj_run_ok _ _ _ _ _ _ H.1.1 e), (fw_run (X := fw_all) d M h a o h' (fw_X_all _) H.2 ha e).1⟩
/-- a value for a place of a type -/
def nt_ (top : Int) (t : Nat) (v : Int) : Prop :=
  if t = 10 then -2147483648 ≤ v ∧ v < 2147483648 else if t = 11 then -9223372036854775808 ≤ v ∧ v < 9223372036854775808 else if t = 4 then v = 0 ∨ v = 1
  else if t = 5 then 0 ≤ v ∧ v < 65536 else if t = 8 then -128 ≤ v ∧ v < 128 else if t = 9 then -32768 ≤ v ∧ v < 32768 else if t = 12 then 0 ≤ v ∧ v ≤ top else if t = 7 then 0 ≤ v ∧ v < 18446744073709551616 else if t = 6 then 0 ≤ v ∧ v < 4294967296 else False
theorem nt_ok {top : Int} {t : Nat} {v : Int} (q : nt_ top t v) : fr_nt top t v := by
  unfold nt_ at q
  unfold fr_nt
  by_cases h1 : t = 10; (subst h1; exact ⟨rfl, fun _ _ => by simpa [fr_nv, fi_tg, fr_i32] using q⟩)
  by_cases h2 : t = 11; (subst h2; exact ⟨rfl, fun _ _ => by simpa [fr_nv, fi_tg, fr_i64] using q⟩)
  by_cases h3 : t = 4; (subst h3; refine ⟨by simpa [fi_rg] using q, fun _ _ => ?_⟩; simp only [if_neg h1, if_neg h2, if_true] at q; show fr_i32 v; unfold fr_i32; omega)
  by_cases h4 : t = 5; (subst h4; refine ⟨by simpa [fi_rg] using q, fun _ _ => ?_⟩; simp only [if_neg h1, if_neg h2, if_neg h3, if_true] at q; show fr_i32 v; unfold fr_i32; omega)
  by_cases h5 : t = 8; (subst h5; refine ⟨by simpa [fi_rg] using q, fun _ _ => ?_⟩; simp only [if_neg h1, if_neg h2, if_neg h3, if_neg h4, if_true] at q; show fr_i32 v; unfold fr_i32; omega)
  by_cases h6 : t = 9; (subst h6; refine ⟨by simpa [fi_rg] using q, fun _ _ => ?_⟩; simp only [if_neg h1, if_neg h2, if_neg h3, if_neg h4, if_neg h5, if_true] at q; show fr_i32 v; unfold fr_i32; omega)
  by_cases h7 : t = 12; (subst h7; exact ⟨rfl, fun _ _ => by simpa [fr_nv, fi_tg] using q⟩)
  by_cases h8 : t = 7; (subst h8; exact ⟨rfl, fun _ _ => by simpa [fr_nv, fi_tg] using q⟩)
  by_cases h9 : t = 6; (subst h9; exact ⟨rfl, fun _ _ => by simpa [fr_nv, fi_tg] using q⟩)
  simp only [if_neg h1, if_neg h2, if_neg h3, if_neg h4, if_neg h5, if_neg h6, if_neg h7, if_neg h8, if_neg h9] at q
theorem Hp.ud (H : Hp h) {f a : Nat} (i : Nat) {v : Int} (ha : 302 < a) (hc : h 0 a 0 ≠ 0) (hf : 4 ≤ f) (hn : fj_fin f = false) (hv : nt_ (h 2 0 0) (fr_ty f) v) : Hp (fi_upd h f a i v) := by
  have T : fj_nice (fi_upd h f a i v) ∧ fj_stb h (fi_upd h f a i v) := by
    by_cases h100 : 100 ≤ f
    · by_cases hi : i = 0
      · subst hi; exact fj_hs_ok H.1.1 (Or.inr (Or.inl ⟨f, a, v, rfl, ha, hc, h100, fun q => by rw [hn] at q; cases q⟩))
      · -- a field's other places hold nothing that matters
        have hle := fj_nice_le H.1.1 hc
        have e2 : fi_upd h f a i v 2 0 0 = h 2 0 0 := fi_upd_ne h f a i v (fun q => by omega)
        refine ⟨⟨by rw [e2]; exact H.1.1.1, fun b hb g j => ?_⟩, by rw [e2]; exact Int.le_refl _, fun b _ => ⟨fi_upd_ne h f a i v (fun q => by omega), fi_upd_ne h f a i v (fun q => by omega), fun g _ _ => fi_upd_ne h f a i v (fun q => hi q.2.2.symm)⟩, fun b _ h2 g j => fi_upd_ne h f a i v (fun q => by have : b ≤ 302 := h2; omega)⟩
        rw [e2] at hb
        rw [fi_upd_ne h f a i v (fun q => by omega)]
        exact H.1.1.2 b hb g j
    · have hb : f ≤ 12 := by
        by_cases q : f ≤ 12
        · exact q
        · exfalso
          have hty : fr_ty f = f := by unfold fr_ty; exact if_pos (by omega)
          rw [hty] at hv
          unfold nt_ at hv
          rw [if_neg (by omega), if_neg (by omega), if_neg (by omega), if_neg (by omega), if_neg (by omega), if_neg (by omega), if_neg (by omega), if_neg (by omega), if_neg (by omega)] at hv
          exact hv
      exact fj_hs_ok H.1.1 (Or.inr (Or.inr (Or.inl ⟨f, a, i, v, rfl, ha, hc, hf, hb⟩)))
  have e2 : fi_upd h f a i v 2 0 0 = h 2 0 0 := fi_upd_ne h f a i v (fun q => by omega)
  refine ⟨shp_st H.1 T, by rw [e2]; exact H.2.1, fun g b j => ?_, fun _ _ _ _ _ _ => trivial, fun b => ?_⟩
  · rw [e2]
    by_cases q : g = f ∧ b = a ∧ j = i
    · obtain ⟨rfl, rfl, rfl⟩ := q; rw [fi_upd_same]; exact nt_ok hv
    · rw [fi_upd_ne h f a i v q]; exact H.2.2.1 g b j
  · rw [fi_upd_ne h f a i v (fun q => by omega)]; exact H.2.2.2.2 b
theorem Hp.u (H : Hp h) {f a : Nat} (i : Nat) {v : Int} (ha : 302 < a ∧ a ≤ 714) (hf : (4 ≤ f ∧ fj_fin f = false)) (hv : nt_ (h 2 0 0) (fr_ty f) v) : Hp (fi_upd h f a i v) := Hp.ud H i ha.1 (by have := shC H.1 ha.1 ha.2; omega) hf.1 hf.2 hv
theorem Hp.n (H : Hp h) {k : Int} (n : Int) {len : Int} (hk : 0 ≤ k) (hl : 0 ≤ len ∧ len < 65536) : Hp (fi_new h k n len) := by
  have T := fj_hs_ok H.1.1 (Or.inr (Or.inr (Or.inr (Or.inl ⟨k, n, len, rfl⟩))))
  have h0 : 0 ≤ h 2 0 0 := by have := H.2.1; omega
  have e2 := fi_new_top h k n len h0
  refine ⟨shp_st H.1 T, by rw [e2]; have := H.2.1; omega, fun g b j => ?_, fun _ _ _ _ _ _ => trivial, fun b => ?_⟩
  · have key : ∀ x : Int, fr_nt (h 2 0 0) (fr_ty g) x → fr_nt (fi_new h k n len 2 0 0) (fr_ty g) x := fun x q => fw_nt_le (by rw [e2]; omega) q
    by_cases q : (b : Int) = h 2 0 0 + 1
    · unfold fi_new
      rw [if_pos q]
      have z : ∀ t, fr_nt (fi_new h k n len 2 0 0) t 0 := by
        intro t
        rw [e2]
        refine ⟨by unfold fi_rg; (repeat' split) <;> simp, fun a b => ?_⟩
        have h0' : (0 : Int) ≤ h 2 0 0 + 1 := by omega
        have : t = 4 ∨ t = 5 ∨ t = 6 ∨ t = 7 ∨ t = 8 ∨ t = 9 ∨ t = 10 ∨ t = 11 ∨ t = 12 := by omega
        rcases this with rfl | rfl | rfl | rfl | rfl | rfl | rfl | rfl | rfl <;> simp [fr_nv, fi_tg, fr_i32, fr_i64, h0']
      by_cases g0 : g = 0
      · subst g0; exact ⟨rfl, fun a _ => by simp [fr_ty] at a⟩
      · rw [if_neg g0]
        by_cases g1 : g = 1
        · subst g1; exact ⟨rfl, fun a _ => by simp [fr_ty] at a⟩
        · rw [if_neg g1]; exact z _
    · by_cases q0 : b = 0
      · subst q0
        by_cases g2 : g = 2
        · subst g2; exact ⟨rfl, fun a _ => by simp [fr_ty] at a⟩
        · by_cases g3 : g = 3
          · subst g3; exact ⟨rfl, fun a _ => by simp [fr_ty] at a⟩
          · have : fi_new h k n len g 0 j = h g 0 j := by unfold fi_new; rw [if_neg q, if_pos rfl, if_neg g2, if_neg g3]
            rw [this]; exact key _ (H.2.2.1 g 0 j)
      · have : fi_new h k n len g b j = h g b j := by unfold fi_new; rw [if_neg q, if_neg q0]
        rw [this]; exact key _ (H.2.2.1 g b j)
  · by_cases q : (b : Int) = h 2 0 0 + 1
    · have : fi_new h k n len 1 b 0 = len := by unfold fi_new; rw [if_pos q]; rfl
      rw [this]; exact hl
    · have : fi_new h k n len 1 b 0 = h 1 b 0 := by
        unfold fi_new; rw [if_neg q]
        by_cases q0 : b = 0
        · rw [if_pos q0]; rfl
        · rw [if_neg q0]
      rw [this]; exact H.2.2.2.2 b
end RG
section UPD
variable {h : fi_H} {f a : Nat} {v : Int}
theorem Hp.uI (H : Hp h) (i : Nat) (ha : 302 < a ∧ a ≤ 714) (hf : (4 ≤ f ∧ fj_fin f = false) ∧ fr_ty f = 10) (hv : -2147483648 ≤ v ∧ v < 2147483648) : Hp (fi_upd h f a i v) := Hp.u H i ha hf.1 (by rw [hf.2]; exact hv)
theorem Hp.uJ (H : Hp h) (i : Nat) (ha : 302 < a ∧ a ≤ 714) (hf : (4 ≤ f ∧ fj_fin f = false) ∧ fr_ty f = 11) (hv : -9223372036854775808 ≤ v ∧ v < 9223372036854775808) : Hp (fi_upd h f a i v) := Hp.u H i ha hf.1 (by rw [hf.2]; exact hv)
theorem Hp.uZ (H : Hp h) (i : Nat) (ha : 302 < a ∧ a ≤ 714) (hf : (4 ≤ f ∧ fj_fin f = false) ∧ fr_ty f = 4) (hv : v = 0 ∨ v = 1) : Hp (fi_upd h f a i v) := Hp.u H i ha hf.1 (by rw [hf.2]; exact hv)
theorem Hp.uC (H : Hp h) (i : Nat) (ha : 302 < a ∧ a ≤ 714) (hf : (4 ≤ f ∧ fj_fin f = false) ∧ fr_ty f = 5) (hv : 0 ≤ v ∧ v < 65536) : Hp (fi_upd h f a i v) := Hp.u H i ha hf.1 (by rw [hf.2]; exact hv)
theorem Hp.uB (H : Hp h) (i : Nat) (ha : 302 < a ∧ a ≤ 714) (hf : (4 ≤ f ∧ fj_fin f = false) ∧ fr_ty f = 8) (hv : -128 ≤ v ∧ v < 128) : Hp (fi_upd h f a i v) := Hp.u H i ha hf.1 (by rw [hf.2]; exact hv)
theorem Hp.uS (H : Hp h) (i : Nat) (ha : 302 < a ∧ a ≤ 714) (hf : (4 ≤ f ∧ fj_fin f = false) ∧ fr_ty f = 9) (hv : -32768 ≤ v ∧ v < 32768) : Hp (fi_upd h f a i v) := Hp.u H i ha hf.1 (by rw [hf.2]; exact hv)
theorem Hp.uR (H : Hp h) (i : Nat) (ha : 302 < a ∧ a ≤ 714) (hf : (4 ≤ f ∧ fj_fin f = false) ∧ fr_ty f = 12) (hv : 0 ≤ v ∧ v ≤ h 2 0 0) : Hp (fi_upd h f a i v) := Hp.u H i ha hf.1 (by rw [hf.2]; exact hv)
theorem Hp.u7 (H : Hp h) (i : Nat) (ha : 302 < a ∧ a ≤ 714) (hf : (4 ≤ f ∧ fj_fin f = false) ∧ fr_ty f = 7) (hv : 0 ≤ v ∧ v < 18446744073709551616) : Hp (fi_upd h f a i v) := Hp.u H i ha hf.1 (by rw [hf.2]; exact hv)
theorem Hp.u6 (H : Hp h) (i : Nat) (ha : 302 < a ∧ a ≤ 714) (hf : (4 ≤ f ∧ fj_fin f = false) ∧ fr_ty f = 6) (hv : 0 ≤ v ∧ v < 4294967296) : Hp (fi_upd h f a i v) := Hp.u H i ha hf.1 (by rw [hf.2]; exact hv)
end UPD
theorem lt_eq {α β : Type} {e : α} {k : α → β} : lt_ e k = k e := rfl
theorem ret_eq {t : Nat} {x y : Int} {h : fi_H} (e : x = y) : (some (.inl (some (t, x)), h) : fk_R) = some (.inl (some (t, y)), h) := by rw [e]
/-! runs of one side -/
def mkv (T : Nat) (x : Int) : Option FV := if T = 9 then none else some (T, x)
/-- a run ends with an answer of kind T (9: none), or with X thrown -/
def Rn (X T : Nat) (r : fk_R) (P : Int → fi_H → Prop) (E : fi_H → Prop) : Prop := ∃ h, Hp h ∧ ((∃ x, r = some (.inl (mkv T x), h) ∧ P x h) ∨ (r = some (.inr X, h) ∧ E h))
section RN
variable {X T : Nat} {P : Int → fi_H → Prop} {E : fi_H → Prop}
theorem Rn.ret {x : Int} {h : fi_H} (hT : T ≠ 9) (H : Hp h) (q : P x h) : Rn X T (some (.inl (some (T, x)), h)) P E := ⟨h, H, Or.inl ⟨x, by unfold mkv; rw [if_neg hT], q⟩⟩
theorem Rn.vret {h : fi_H} (H : Hp h) (q : P 0 h) : Rn X 9 (some (.inl none, h)) P E := ⟨h, H, Or.inl ⟨0, rfl, q⟩⟩
theorem Rn.thr {h : fi_H} (H : Hp h) (q : E h) : Rn X T (some (.inr X, h)) P E := ⟨h, H, Or.inr ⟨rfl, q⟩⟩
theorem Rn.imp {r : fk_R} {P' : Int → fi_H → Prop} {E' : fi_H → Prop} (q : Rn X T r P E) (k : ∀ x h, Hp h → P x h → P' x h) (k2 : ∀ h, Hp h → E h → E' h) : Rn X T r P' E' := by
  obtain ⟨h, H, ⟨x, e, p⟩ | ⟨e, p⟩⟩ := q
  · exact ⟨h, H, Or.inl ⟨x, e, k x h H p⟩⟩
  · exact ⟨h, H, Or.inr ⟨e, k2 h H p⟩⟩
theorem ca_mk {t : Nat} {v : Int} {h : fi_H} {k : Int → fi_H → fk_R} {x : Nat → fi_H → fk_R} (ht : t ≠ 9) : ca_ (some (.inl (mkv t v), h)) t k x = k v h := by unfold mkv; rw [if_neg ht]; exact ca_ret
theorem Rn.ca {t : Nat} {r : fk_R} {P1 : Int → fi_H → Prop} {E1 : fi_H → Prop} {k : Int → fi_H → fk_R} {xx : Nat → fi_H → fk_R} (q : Rn X t r P1 E1) (ht : t ≠ 9)
    (k1 : ∀ x h, Hp h → P1 x h → Rn X T (k x h) P E) (k2 : ∀ h, Hp h → E1 h → Rn X T (xx X h) P E) : Rn X T (ca_ r t k xx) P E := by
  obtain ⟨h, H, ⟨x, rfl, p⟩ | ⟨rfl, p⟩⟩ := q
  · rw [ca_mk ht]; exact k1 x h H p
  · rw [ca_thr]; exact k2 h H p
theorem Rn.cv {r : fk_R} {P1 : Int → fi_H → Prop} {E1 : fi_H → Prop} {k : fi_H → fk_R} {xx : Nat → fi_H → fk_R} (q : Rn X 9 r P1 E1)
    (k1 : ∀ x h, Hp h → P1 x h → Rn X T (k h) P E) (k2 : ∀ h, Hp h → E1 h → Rn X T (xx X h) P E) : Rn X T (cv_ r k xx) P E := by
  obtain ⟨h, H, ⟨x, rfl, p⟩ | ⟨rfl, p⟩⟩ := q
  · exact k1 x h H p
  · exact k2 h H p
theorem Rn.i {c : Prop} [Decidable c] {a b : fk_R} (k1 : c → Rn X T a P E) (k2 : ¬ c → Rn X T b P E) : Rn X T (if c then a else b) P E := by
  by_cases q : c
  · rw [if_pos q]; exact k1 q
  · rw [if_neg q]; exact k2 q
theorem Rn.g {c : Prop} [Decidable c] {a b : fk_R} (q : c) (k1 : Rn X T a P E) : Rn X T (if c then a else b) P E := by rw [if_pos q]; exact k1
theorem Rn.n {c : Prop} [Decidable c] {a b : fk_R} (q : ¬ c) (k1 : Rn X T b P E) : Rn X T (if c then a else b) P E := by rw [if_neg q]; exact k1
theorem Rn.l {α : Type} {e : α} {k : α → fk_R} (k1 : ∀ x, x = e → Rn X T (k x) P E) : Rn X T (lt_ e k) P E := k1 e rfl
theorem Rn.dv {o : Option Nat} {m : Nat} {k : Nat → fk_R} (q : o = some m) (k1 : Rn X T (k m) P E) : Rn X T (dv_ o k) P E := by rw [q]; exact k1
end RN
/-! both sides: the class's run on the left, the model's on the right; X is what the class throws -/
def Bo (X TA TB : Nat) (rA rB : fk_R) (P : Int → fi_H → Int → fi_H → Prop) (E : fi_H → fi_H → Prop) : Prop :=
  ∃ hA hB, Hp hA ∧ Hp hB ∧ ((∃ x y, rA = some (.inl (mkv TA x), hA) ∧ rB = some (.inl (mkv TB y), hB) ∧ P x hA y hB) ∨ (rA = some (.inr X, hA) ∧ rB = some (.inr 603, hB) ∧ E hA hB))
section BO
variable {X TA TB : Nat} {rA rB : fk_R} {P : Int → fi_H → Int → fi_H → Prop} {E : fi_H → fi_H → Prop}
theorem Bo.ret {x y : Int} {hA hB : fi_H} (h1 : TA ≠ 9) (h2 : TB ≠ 9) (HA : Hp hA) (HB : Hp hB) (q : P x hA y hB) : Bo X TA TB (some (.inl (some (TA, x)), hA)) (some (.inl (some (TB, y)), hB)) P E := ⟨hA, hB, HA, HB, Or.inl ⟨x, y, by unfold mkv; rw [if_neg h1], by unfold mkv; rw [if_neg h2], q⟩⟩
theorem Bo.retv {x : Int} {hA hB : fi_H} (h1 : TA ≠ 9) (HA : Hp hA) (HB : Hp hB) (q : P x hA 0 hB) : Bo X TA 9 (some (.inl (some (TA, x)), hA)) (some (.inl none, hB)) P E := ⟨hA, hB, HA, HB, Or.inl ⟨x, 0, by unfold mkv; rw [if_neg h1], rfl, q⟩⟩
theorem Bo.vret {y : Int} {hA hB : fi_H} (h2 : TB ≠ 9) (HA : Hp hA) (HB : Hp hB) (q : P 0 hA y hB) : Bo X 9 TB (some (.inl none, hA)) (some (.inl (some (TB, y)), hB)) P E := ⟨hA, hB, HA, HB, Or.inl ⟨0, y, rfl, by unfold mkv; rw [if_neg h2], q⟩⟩
theorem Bo.vv {hA hB : fi_H} (HA : Hp hA) (HB : Hp hB) (q : P 0 hA 0 hB) : Bo X 9 9 (some (.inl none, hA)) (some (.inl none, hB)) P E := ⟨hA, hB, HA, HB, Or.inl ⟨0, 0, rfl, rfl, q⟩⟩
theorem Bo.thr {hA hB : fi_H} (HA : Hp hA) (HB : Hp hB) (q : E hA hB) : Bo X TA TB (some (.inr X, hA)) (some (.inr 603, hB)) P E := ⟨hA, hB, HA, HB, Or.inr ⟨rfl, rfl, q⟩⟩
theorem Bo.imp {P' : Int → fi_H → Int → fi_H → Prop} {E' : fi_H → fi_H → Prop} (q : Bo X TA TB rA rB P E) (k : ∀ x hA y hB, Hp hA → Hp hB → P x hA y hB → P' x hA y hB) (k2 : ∀ hA hB, Hp hA → Hp hB → E hA hB → E' hA hB) : Bo X TA TB rA rB P' E' := by
  obtain ⟨hA, hB, HA, HB, ⟨x, y, e1, e2, p⟩ | ⟨e1, e2, p⟩⟩ := q
  · exact ⟨hA, hB, HA, HB, Or.inl ⟨x, y, e1, e2, k x hA y hB HA HB p⟩⟩
  · exact ⟨hA, hB, HA, HB, Or.inr ⟨e1, e2, k2 hA hB HA HB p⟩⟩
theorem Bo.ai {c : Prop} [Decidable c] {a b : fk_R} (k1 : c → Bo X TA TB a rB P E) (k2 : ¬ c → Bo X TA TB b rB P E) : Bo X TA TB (if c then a else b) rB P E := by
  by_cases q : c
  · rw [if_pos q]; exact k1 q
  · rw [if_neg q]; exact k2 q
theorem Bo.ag {c : Prop} [Decidable c] {a b : fk_R} (q : c) (k1 : Bo X TA TB a rB P E) : Bo X TA TB (if c then a else b) rB P E := by rw [if_pos q]; exact k1
theorem Bo.an {c : Prop} [Decidable c] {a b : fk_R} (q : ¬ c) (k1 : Bo X TA TB b rB P E) : Bo X TA TB (if c then a else b) rB P E := by rw [if_neg q]; exact k1
theorem Bo.bi {c : Prop} [Decidable c] {a b : fk_R} (k1 : c → Bo X TA TB rA a P E) (k2 : ¬ c → Bo X TA TB rA b P E) : Bo X TA TB rA (if c then a else b) P E := by
  by_cases q : c
  · rw [if_pos q]; exact k1 q
  · rw [if_neg q]; exact k2 q
theorem Bo.bg {c : Prop} [Decidable c] {a b : fk_R} (q : c) (k1 : Bo X TA TB rA a P E) : Bo X TA TB rA (if c then a else b) P E := by rw [if_pos q]; exact k1
theorem Bo.bn {c : Prop} [Decidable c] {a b : fk_R} (q : ¬ c) (k1 : Bo X TA TB rA b P E) : Bo X TA TB rA (if c then a else b) P E := by rw [if_neg q]; exact k1
theorem Bo.al {α : Type} {e : α} {k : α → fk_R} (k1 : ∀ x, x = e → Bo X TA TB (k x) rB P E) : Bo X TA TB (lt_ e k) rB P E := k1 e rfl
theorem Bo.bl {α : Type} {e : α} {k : α → fk_R} (k1 : ∀ x, x = e → Bo X TA TB rA (k x) P E) : Bo X TA TB rA (lt_ e k) P E := k1 e rfl
theorem Bo.adv {o : Option Nat} {m : Nat} {k : Nat → fk_R} (q : o = some m) (k1 : Bo X TA TB (k m) rB P E) : Bo X TA TB (dv_ o k) rB P E := by rw [q]; exact k1
theorem Bo.bdv {o : Option Nat} {m : Nat} {k : Nat → fk_R} (q : o = some m) (k1 : Bo X TA TB rA (k m) P E) : Bo X TA TB rA (dv_ o k) P E := by rw [q]; exact k1
theorem Bo.aca {t X1 : Nat} {r : fk_R} {P1 : Int → fi_H → Prop} {k : Int → fi_H → fk_R} {xx : Nat → fi_H → fk_R} (q : Rn X1 t r P1 (fun _ => False)) (ht : t ≠ 9) (k1 : ∀ x h, Hp h → P1 x h → Bo X TA TB (k x h) rB P E) : Bo X TA TB (ca_ r t k xx) rB P E := by
  obtain ⟨h, H, ⟨x, rfl, p⟩ | ⟨_, p⟩⟩ := q
  · rw [ca_mk ht]; exact k1 x h H p
  · exact p.elim
theorem Bo.bca {t X1 : Nat} {r : fk_R} {P1 : Int → fi_H → Prop} {k : Int → fi_H → fk_R} {xx : Nat → fi_H → fk_R} (q : Rn X1 t r P1 (fun _ => False)) (ht : t ≠ 9) (k1 : ∀ x h, Hp h → P1 x h → Bo X TA TB rA (k x h) P E) : Bo X TA TB rA (ca_ r t k xx) P E := by
  obtain ⟨h, H, ⟨x, rfl, p⟩ | ⟨_, p⟩⟩ := q
  · rw [ca_mk ht]; exact k1 x h H p
  · exact p.elim
theorem Bo.acv {X1 : Nat} {r : fk_R} {P1 : Int → fi_H → Prop} {k : fi_H → fk_R} {xx : Nat → fi_H → fk_R} (q : Rn X1 9 r P1 (fun _ => False)) (k1 : ∀ x h, Hp h → P1 x h → Bo X TA TB (k h) rB P E) : Bo X TA TB (cv_ r k xx) rB P E := by
  obtain ⟨h, H, ⟨x, rfl, p⟩ | ⟨_, p⟩⟩ := q
  · exact k1 x h H p
  · exact p.elim
theorem Bo.bcv {X1 : Nat} {r : fk_R} {P1 : Int → fi_H → Prop} {k : fi_H → fk_R} {xx : Nat → fi_H → fk_R} (q : Rn X1 9 r P1 (fun _ => False)) (k1 : ∀ x h, Hp h → P1 x h → Bo X TA TB rA (k h) P E) : Bo X TA TB rA (cv_ r k xx) P E := by
  obtain ⟨h, H, ⟨x, rfl, p⟩ | ⟨_, p⟩⟩ := q
  · exact k1 x h H p
  · exact p.elim
section CALLS
variable {r1 r2 : fk_R} {t1 t2 : Nat} {P1 : Int → fi_H → Int → fi_H → Prop} {E1 : fi_H → fi_H → Prop} {xA xB : Nat → fi_H → fk_R}
theorem Bo.caca {kA kB : Int → fi_H → fk_R} (q : Bo X t1 t2 r1 r2 P1 E1) (h1 : t1 ≠ 9) (h2 : t2 ≠ 9) (k1 : ∀ x hA y hB, Hp hA → Hp hB → P1 x hA y hB → Bo X TA TB (kA x hA) (kB y hB) P E) (k2 : ∀ hA hB, Hp hA → Hp hB → E1 hA hB → Bo X TA TB (xA X hA) (xB 603 hB) P E) : Bo X TA TB (ca_ r1 t1 kA xA) (ca_ r2 t2 kB xB) P E := by
  obtain ⟨hA, hB, HA, HB, ⟨x, y, rfl, rfl, p⟩ | ⟨rfl, rfl, p⟩⟩ := q
  · rw [ca_mk h1, ca_mk h2]; exact k1 x hA y hB HA HB p
  · rw [ca_thr, ca_thr]; exact k2 hA hB HA HB p
theorem Bo.cacv {kA : Int → fi_H → fk_R} {kB : fi_H → fk_R} (q : Bo X t1 9 r1 r2 P1 E1) (h1 : t1 ≠ 9) (k1 : ∀ x hA y hB, Hp hA → Hp hB → P1 x hA y hB → Bo X TA TB (kA x hA) (kB hB) P E) (k2 : ∀ hA hB, Hp hA → Hp hB → E1 hA hB → Bo X TA TB (xA X hA) (xB 603 hB) P E) : Bo X TA TB (ca_ r1 t1 kA xA) (cv_ r2 kB xB) P E := by
  obtain ⟨hA, hB, HA, HB, ⟨x, y, rfl, rfl, p⟩ | ⟨rfl, rfl, p⟩⟩ := q
  · rw [ca_mk h1]; exact k1 x hA y hB HA HB p
  · rw [ca_thr]; exact k2 hA hB HA HB p
theorem Bo.cvca {kA : fi_H → fk_R} {kB : Int → fi_H → fk_R} (q : Bo X 9 t2 r1 r2 P1 E1) (h2 : t2 ≠ 9) (k1 : ∀ x hA y hB, Hp hA → Hp hB → P1 x hA y hB → Bo X TA TB (kA hA) (kB y hB) P E) (k2 : ∀ hA hB, Hp hA → Hp hB → E1 hA hB → Bo X TA TB (xA X hA) (xB 603 hB) P E) : Bo X TA TB (cv_ r1 kA xA) (ca_ r2 t2 kB xB) P E := by
  obtain ⟨hA, hB, HA, HB, ⟨x, y, rfl, rfl, p⟩ | ⟨rfl, rfl, p⟩⟩ := q
  · rw [ca_mk h2]; exact k1 x hA y hB HA HB p
  · rw [ca_thr]; exact k2 hA hB HA HB p
theorem Bo.cvcv {kA kB : fi_H → fk_R} (q : Bo X 9 9 r1 r2 P1 E1) (k1 : ∀ x hA y hB, Hp hA → Hp hB → P1 x hA y hB → Bo X TA TB (kA hA) (kB hB) P E) (k2 : ∀ hA hB, Hp hA → Hp hB → E1 hA hB → Bo X TA TB (xA X hA) (xB 603 hB) P E) : Bo X TA TB (cv_ r1 kA xA) (cv_ r2 kB xB) P E := by
  obtain ⟨hA, hB, HA, HB, ⟨x, y, rfl, rfl, p⟩ | ⟨rfl, rfl, p⟩⟩ := q
  · exact k1 x hA y hB HA HB p
  · exact k2 hA hB HA HB p
end CALLS
end BO
theorem tx_304 {h : fi_H} (H : Hp h) : tx_ 304 h = some (.inr 304, h) := by unfold tx_; rw [s0_304 H.1]; exact if_pos (by decide)
theorem tx_305 {h : fi_H} (H : Hp h) : tx_ 305 h = some (.inr 305, h) := by unfold tx_; rw [s0_305 H.1]; exact if_pos (by decide)
theorem tx_603 {h : fi_H} (H : Hp h) : tx_ 603 h = some (.inr 603, h) := by unfold tx_; rw [s0_603 H.1]; exact if_pos (by decide)
/-! what a run leaves alone: all cells there were, but the places of W -/
def Fr (W : Nat → Nat → Nat → Prop) (h h' : fi_H) : Prop := h 2 0 0 ≤ h' 2 0 0 ∧ ∀ f a i : Nat, 0 < a → (a : Int) ≤ h 2 0 0 → ¬ W f a i → h' f a i = h f a i
section FR
variable {W : Nat → Nat → Nat → Prop} {h h1 h2 : fi_H}
theorem Fr.rf (W : Nat → Nat → Nat → Prop) (h : fi_H) : Fr W h h := ⟨Int.le_refl _, fun _ _ _ _ _ _ => rfl⟩
theorem Fr.tr (a : Fr W h h1) (b : Fr W h1 h2) : Fr W h h2 := ⟨Int.le_trans a.1 b.1, fun f x i h0 hx hw => (b.2 f x i h0 (Int.le_trans hx a.1) hw).trans (a.2 f x i h0 hx hw)⟩
theorem Fr.mono {V : Nat → Nat → Nat → Prop} (a : Fr V h h1) (k : ∀ f x i, V f x i → W f x i) : Fr W h h1 := ⟨a.1, fun f x i h0 hx hw => a.2 f x i h0 hx (fun q => hw (k f x i q))⟩
theorem Fr.u {f a : Nat} (i : Nat) (v : Int) (q : Fr W h h1) (ha : 0 < a) (hw : W f a i) : Fr W h (fi_upd h1 f a i v) := by
  refine q.tr ⟨?_, fun g x j h0 hx hwx => fi_upd_ne h1 f a i v (fun e => ?_)⟩
  · rw [fi_upd_ne h1 f a i v (fun e => by omega)]; exact Int.le_refl _
  · obtain ⟨rfl, rfl, rfl⟩ := e; exact hwx hw
/-- a cell that is new may be written -/
theorem Fr.ud {f a : Nat} (i : Nat) (v : Int) (q : Fr W h h1) (hn : h 2 0 0 < (a : Int)) (ha : 0 < a) : Fr W h (fi_upd h1 f a i v) := by
  refine ⟨?_, fun g x j h0 hx hwx => ?_⟩
  · rw [fi_upd_ne h1 f a i v (fun e => by omega)]; exact q.1
  · rw [fi_upd_ne h1 f a i v (fun e => by omega)]; exact q.2 g x j h0 hx hwx
theorem Fr.n (k n len : Int) (q : Fr W h h1) (h0 : 0 ≤ h1 2 0 0) : Fr W h (fi_new h1 k n len) := by
  refine q.tr ⟨?_, fun g x j hx0 hx _ => ?_⟩
  · rw [fi_new_top h1 k n len h0]; omega
  · unfold fi_new; rw [if_neg (by omega), if_neg (by omega)]
end FR
