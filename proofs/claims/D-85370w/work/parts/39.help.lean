/-! what goes along a form: the fixed cells, classes, final fields -/
theorem sh_P_mem {h : fi_H} : ∀ {l : List (Nat × Nat × Nat × Int)}, sh_P h l ↔ ∀ q ∈ l, h q.1 q.2.1 q.2.2.1 = q.2.2.2
  | [] => ⟨fun _ q hq => (by cases hq), fun _ => trivial⟩
  | q :: l => by
    unfold sh_P
    rw [sh_P_mem (l := l)]
    simp
theorem sh_PL_mem {h : fi_H} : ∀ {l : List (List (Nat × Nat × Nat × Int))}, sh_PL h l ↔ ∀ c ∈ l, sh_P h c
  | [] => ⟨fun _ q hq => (by cases hq), fun _ => trivial⟩
  | q :: l => by
    unfold sh_PL
    rw [sh_PL_mem (l := l)]
    simp
theorem shp_st {h h' : fi_H} (H : Shp h) (T : fj_nice h' ∧ fj_stb h h') : Shp h' := by
  obtain ⟨hn, hz, ht, hq⟩ := H
  obtain ⟨n', s1, s2, s3⟩ := T
  refine ⟨n', ?_, Int.le_trans ht s1, sh_PL_mem.mpr (fun c hc => sh_P_mem.mpr (fun q hm => ?_))⟩
  · rw [(s2 0 (by have := hn.1; omega)).1]; exact hz
  · have ok := List.all_eq_true.mp (List.all_eq_true.mp sh_all c hc) q hm
    have e := sh_P_mem.mp (sh_PL_mem.mp hq c hc) q hm
    obtain ⟨f, a, i, v⟩ := q
    simp only at e ⊢
    unfold sh_ok at ok
    simp only [Bool.or_eq_true, Bool.and_eq_true, decide_eq_true_eq] at ok
    rcases ok with ⟨a1, a2⟩ | ⟨⟨rfl, a1⟩, a2⟩
    · rw [s3 a a1 a2]; exact e
    · obtain ⟨p1, p2, p3⟩ := s2 a (by omega)
      rcases a2 with (rfl | rfl) | ⟨b1, b2⟩
      · rw [p1]; exact e
      · rw [p2]; exact e
      · rw [p3 f b1 (by rw [e]; exact b2)]; exact e
def Sh0 (h : fi_H) : Prop := fj_nice h ∧ h 0 0 0 = 0 ∧ True
theorem sh0_st {h h' : fi_H} (H : Sh0 h) (T : fj_nice h' ∧ fj_stb h h') : Sh0 h' :=
  ⟨T.1, by rw [(T.2.2.1 0 (by have := H.1.1; omega)).1]; exact H.2.1, trivial⟩
theorem cls_st {h h' : fi_H} {a : Nat} {k : Int} (N : fj_nice h) (S : fj_stb h h') (e : h 0 a 0 = k) (hk : k ≠ 0) : h' 0 a 0 = k := by
  rw [(S.2.1 a (fj_nice_le N (by rw [e]; exact hk))).1]; exact e
theorem len_st {h h' : fi_H} {a : Nat} {k n : Int} (N : fj_nice h) (S : fj_stb h h') (e : h 0 a 0 = k) (hk : k ≠ 0) (e2 : h 1 a 0 = n) : h' 1 a 0 = n := by
  rw [(S.2.1 a (fj_nice_le N (by rw [e]; exact hk))).2.1]; exact e2
theorem fin_st {h h' : fi_H} {a f : Nat} {k v : Int} (N : fj_nice h) (S : fj_stb h h') (e : h 0 a 0 = k) (hk : k ≠ 0) (hf : fj_fin f = true) (e2 : h f a 0 = v) (hv : v ≠ 0) : h' f a 0 = v := by
  rw [(S.2.1 a (fj_nice_le N (by rw [e]; exact hk))).2.2 f hf (by rw [e2]; exact hv)]; exact e2
theorem nz_cls {h : fi_H} (z : h 0 0 0 = 0) {r k : Int} (e : h 0 r.toNat 0 = k) (hk : k ≠ 0) : r ≠ 0 := by
  intro q
  rw [q, show (0 : Int).toNat = 0 from rfl, z] at e
  exact hk e.symm
theorem nw_cls {h h1 : fi_H} (N : fj_nice h) {r k n len : Int} (er : r = h 2 0 0 + 1) (e : h1 = fi_new h k n len) : h1 0 r.toNat 0 = k := by
  have := N.1
  have hJ : (0 : Int) ≤ (fi_J : Int) := by omega
  subst e
  unfold fi_new
  rw [if_pos (by omega), if_pos rfl]
theorem nw_len {h h1 : fi_H} (N : fj_nice h) {r k n len : Int} (er : r = h 2 0 0 + 1) (e : h1 = fi_new h k n len) : h1 1 r.toNat 0 = len := by
  have := N.1
  have hJ : (0 : Int) ≤ (fi_J : Int) := by omega
  subst e
  unfold fi_new
  rw [if_pos (by omega), if_neg (by omega), if_pos rfl]
theorem nw_gt {h : fi_H} (N : fj_nice h) {r : Int} (er : r = h 2 0 0 + 1) : 302 < r := by
  have h1 := N.1
  have h2 : (fi_J : Int) = 302 := rfl
  omega
theorem gt_nz {r : Int} (e : 302 < r) : r ≠ 0 := by omega
theorem gt_nle {r : Int} (e : 302 < r) : ¬ r ≤ 302 := by omega
theorem j_gfuc {c : fi_C} {M pc : Nat} {cu : Option (List Nat)} {x3 : Nat} {l : List fk_E} {L : fi_L} {st : List FV} {h : fi_H} {b : fk_R} {i f t : Nat} {r k v : Int} (z : h 0 0 0 = 0) (D : fk_D M ((pc, cu, .getfield i, 3, f, k, x3) :: l)) (ha : fk_am cu L = L) (ht : fi_tg x3 = t) (hv : h f r.toNat 0 = v) (k' : fi_in (h 0 r.toNat 0) f = true → fk_D M l → gG c M (pc + 3) L ((t, v) :: st) h = b) : gG c M pc L ((4, r) :: st) h = if fi_in (h 0 r.toNat 0) f = true then b else none :=
  j_gfu z D ha ht (fun q D => by rw [hv]; exact k' q D)
theorem wC_nat (x : Int) : wC x = (((fi_I x).toUInt32 % 65536).toNat : Int) := by
  unfold wC
  have h1 : ((fi_I x).toUInt32 % 65536).toNat < 65536 := by rw [UInt32.toNat_mod]; exact Nat.mod_lt _ (by decide)
  exact BitVec.toInt_eq_toNat_of_lt (by show 2 * ((fi_I x).toUInt32 % 65536).toNat < 2 ^ 32; omega)
theorem wC_rg (x : Int) : 0 ≤ wC x ∧ wC x < 65536 := by
  rw [wC_nat]
  have h1 : ((fi_I x).toUInt32 % 65536).toNat < 65536 := by rw [UInt32.toNat_mod]; exact Nat.mod_lt _ (by decide)
  omega
theorem fk_rgC (x : Int) : fi_rg 5 (wC x) = true := by have := wC_rg x; simp [fi_rg]; omega
theorem wB_id {x : Int} (h1 : -128 ≤ x) (h2 : x < 128) : wB x = x := by
  unfold wB
  rw [Int8.toInt_toInt32]
  show (Int32.ofInt x).toInt8.toInt = x
  rw [Int32.toInt8_ofInt, Int8.toInt_ofInt]
  exact Int.bmod_eq_of_le (by simpa using h1) (by simpa using h2)
theorem wS_id {x : Int} (h1 : -32768 ≤ x) (h2 : x < 32768) : wS x = x := by
  unfold wS
  rw [Int16.toInt_toInt32]
  show (Int32.ofInt x).toInt16.toInt = x
  rw [Int32.toInt16_ofInt, Int16.toInt_ofInt]
  exact Int.bmod_eq_of_le (by simpa using h1) (by simpa using h2)
theorem wC_id {x : Int} (h1 : 0 ≤ x) (h2 : x < 65536) : wC x = x := by
  rw [wC_nat, UInt32.toNat_mod]
  have e : (fi_I x).toUInt32.toNat = x.toNat := by
    have e1 : (fi_I x).toInt = x := fr_tI ⟨by omega, by omega⟩
    have e2 : ((fi_I x).toBitVec.toInt) = x := e1
    have e3 : (fi_I x).toUInt32.toNat = (fi_I x).toBitVec.toNat := rfl
    rw [e3]
    have e4 := BitVec.toInt_eq_toNat_cond (fi_I x).toBitVec
    rw [e2] at e4
    have e5 := (fi_I x).toBitVec.isLt
    split at e4 <;> omega
  rw [e]
  show ((x.toNat % 65536 : Nat) : Int) = x
  omega
