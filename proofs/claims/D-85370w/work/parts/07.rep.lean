/-! the machine's values and heap behind the interpreter's -/
/-- base of the new cells, the first heap, old addresses, slots of the fields, class ids by number, the value that is only handed on -/
abbrev fr_G : Type := Nat × Heap × (Nat → Nat) × (Nat → Nat) × (Nat → ClassId) × Value
abbrev fr_B (G : fr_G) : Nat := G.1
abbrev fr_H0 (G : fr_G) : Heap := G.2.1
abbrev fr_od (G : fr_G) : Nat → Nat := G.2.2.1
abbrev fr_sl (G : fr_G) : Nat → Nat := G.2.2.2.1
abbrev fr_cl (G : fr_G) : Nat → ClassId := G.2.2.2.2.1
abbrev fr_ov (G : fr_G) : Value := G.2.2.2.2.2
def fr_ad (G : fr_G) (a : Nat) : Nat := if a ≤ fi_J then fr_od G a else fr_B G + (a - fi_J - 1)
def fr_rv (G : fr_G) (r : Int) : Value := if r = 0 then .null else .ref (fr_ad G r.toNat)
def fr_e (G : fr_G) (v : FV) : Value := match v.1 with
  | 0 => .int (fi_I v.2) | 1 => .long (fi_J6 v.2) | 2 => .float (fi_F v.2) | 3 => .double (fi_D v.2) | 4 => fr_rv G v.2 | _ => fr_ov G
def fr_eL (G : fr_G) (L : fi_L) : List (Nat × Value) := L.map (fun q => (q.1, fr_e G q.2))
def fr_i32 (x : Int) : Prop := -2147483648 ≤ x ∧ x < 2147483648
def fr_i64 (x : Int) : Prop := -9223372036854775808 ≤ x ∧ x < 9223372036854775808
/-- a value as it stands on the stack or in a local -/
def fr_nv (top : Int) (v : FV) : Prop := match v.1 with
  | 0 => fr_i32 v.2 | 1 => fr_i64 v.2 | 2 => 0 ≤ v.2 ∧ v.2 < 4294967296 | 3 => 0 ≤ v.2 ∧ v.2 < 18446744073709551616 | 4 => 0 ≤ v.2 ∧ v.2 ≤ top | 5 => True | _ => False
/-- a value as a place of the heap of that type holds it -/
def fr_nt (top : Int) (t : Nat) (x : Int) : Prop := fi_rg t x = true ∧ (4 ≤ t → t ≤ 12 → fr_nv top (fi_tg t, x))
def fr_ty (f : Nat) : Nat := if f < 100 then f else fi_ft f
def fr_el (k : Int) : Nat := if k < 12 then k.toNat else 12
/-- the cell at an address is what the interpreter's heap says -/
def fr_C (G : fr_G) (h : fi_H) (a : Nat) (cell : Cell) : Prop :=
  if h 0 a 0 < 100 then 4 ≤ h 0 a 0 ∧ cell = arrV (fr_cl G (h 0 a 0).toNat) (h 1 a 0).toNat (fun i => fr_e G (fi_tg (fr_el (h 0 a 0)), h (fr_el (h 0 a 0)) a i))
  else cell.cls = fr_cl G (h 0 a 0).toNat ∧ cell.vm = .none ∧ ∀ f, fi_in (h 0 a 0) f = true → cell.slots[fr_sl G f]? = some (fr_e G (fi_tg (fi_ft f), h f a 0))
def fr_R (G : fr_G) (h : fi_H) (H : Heap) : Prop :=
  (fi_J : Int) ≤ h 2 0 0 ∧ H.size = fr_B G + (h 2 0 0 - fi_J).toNat ∧ (∀ f a i, fr_nt (h 2 0 0) (fr_ty f) (h f a i)) ∧ (∀ a, 0 ≤ h 1 a 0 ∧ h 1 a 0 < 65536) ∧ (∀ q : Nat, q < fr_B G → H[q]? = (fr_H0 G)[q]?) ∧
  ∀ a : Nat, 1 ≤ a → (a : Int) ≤ h 2 0 0 → ∃ cell, H[fr_ad G a]? = some cell ∧ fr_C G h a cell
/-- the old addresses lie below the base, apart -/
def fr_A (G : fr_G) : Prop := (∀ a, 1 ≤ a → a ≤ fi_J → fr_od G a < fr_B G) ∧ (∀ a b, 1 ≤ a → a ≤ fi_J → 1 ≤ b → b ≤ fi_J → fr_od G a = fr_od G b → a = b) ∧ ((∃ a, fr_ov G = .ref a) ∨ fr_ov G = .null) ∧ (fr_H0 G).size = fr_B G
theorem fr_ad_inj {G : fr_G} (hA : fr_A G) {a b : Nat} (ha : 1 ≤ a) (hb : 1 ≤ b) (e : fr_ad G a = fr_ad G b) : a = b := by
  unfold fr_ad at e
  by_cases h1 : a ≤ fi_J
  · by_cases h2 : b ≤ fi_J
    · rw [if_pos h1, if_pos h2] at e; exact hA.2.1 a b ha h1 hb h2 e
    · rw [if_pos h1, if_neg h2] at e
      have := hA.1 a ha h1
      omega
  · by_cases h2 : b ≤ fi_J
    · rw [if_neg h1, if_pos h2] at e
      have := hA.1 b hb h2
      omega
    · rw [if_neg h1, if_neg h2] at e
      omega
theorem fr_rv_eq {G : fr_G} (hA : fr_A G) {x y : Int} (hx : 0 ≤ x) (hy : 0 ≤ y) : fr_rv G x = fr_rv G y ↔ x = y := by
  constructor
  · intro e
    unfold fr_rv at e
    by_cases h1 : x = 0
    · by_cases h2 : y = 0
      · omega
      · rw [if_pos h1, if_neg h2] at e; cases e
    · by_cases h2 : y = 0
      · rw [if_neg h1, if_pos h2] at e; cases e
      · rw [if_neg h1, if_neg h2] at e
        have e2 := fr_ad_inj hA (by omega) (by omega) (Value.ref.inj e)
        omega
  · intro e; rw [e]
theorem fr_wide {G : fr_G} (hA : fr_A G) {top : Int} {v : FV} (hv : fr_nv top v) : (fr_e G v).category = (if fi_wide v then 2 else 1) := by
  obtain ⟨t, x⟩ := v
  unfold fr_nv at hv
  match t, hv with
  | 0, _ => rfl
  | 1, _ => rfl
  | 2, _ => rfl
  | 3, _ => rfl
  | 4, _ => show (fr_rv G x).category = 1; unfold fr_rv; split <;> rfl
  | 5, _ => show (fr_ov G).category = 1; rcases hA.2.2.1 with ⟨a, e⟩ | e <;> rw [e] <;> rfl
  | n + 6, hv => exact hv.elim
theorem fr_e_i (G : fr_G) (x : Int32) : fr_e G (fi_i x) = .int x := by show Value.int (Int32.ofInt x.toInt) = _; rw [Int32.ofInt_toInt]
theorem fr_e_l (G : fr_G) (x : Int64) : fr_e G (fi_l x) = .long x := by show Value.long (Int64.ofInt x.toInt) = _; rw [Int64.ofInt_toInt]
theorem fr_e_f (G : fr_G) (x : UInt32) : fr_e G (fi_f x) = .float x := by show Value.float (UInt32.ofNat (Int.toNat (x.toNat : Int))) = _; simp
theorem fr_e_d (G : fr_G) (x : UInt64) : fr_e G (fi_d x) = .double x := by show Value.double (UInt64.ofNat (Int.toNat (x.toNat : Int))) = _; simp
theorem fr_nv_i (top : Int) (x : Int32) : fr_nv top (fi_i x) := ⟨by have := x.le_toInt; simpa [fi_i] using this, by have := x.toInt_lt; simpa [fi_i] using this⟩
theorem fr_nv_l (top : Int) (x : Int64) : fr_nv top (fi_l x) := ⟨by have := x.le_toInt; simpa [fi_l] using this, by have := x.toInt_lt; simpa [fi_l] using this⟩
theorem fr_nv_f (top : Int) (x : UInt32) : fr_nv top (fi_f x) := by
  have := x.toNat_lt
  show 0 ≤ (x.toNat : Int) ∧ (x.toNat : Int) < 4294967296
  omega
theorem fr_nv_d (top : Int) (x : UInt64) : fr_nv top (fi_d x) := by
  have := x.toNat_lt
  show 0 ≤ (x.toNat : Int) ∧ (x.toNat : Int) < 18446744073709551616
  omega
theorem fr_tI {x : Int} (h : fr_i32 x) : (fi_I x).toInt = x := by
  unfold fr_i32 at h
  show (Int32.ofInt x).toInt = x
  rw [Int32.toInt_ofInt]
  exact Int.bmod_eq_of_le (by simpa using h.1) (by simpa using h.2)
theorem fr_tJ {x : Int} (h : fr_i64 x) : (fi_J6 x).toInt = x := by
  unfold fr_i64 at h
  show (Int64.ofInt x).toInt = x
  rw [Int64.toInt_ofInt]
  exact Int.bmod_eq_of_le (by simpa using h.1) (by simpa using h.2)
theorem fr_I_eq {x y : Int} (hx : fr_i32 x) (hy : fr_i32 y) : fi_I x = fi_I y ↔ x = y := by
  constructor
  · intro e; rw [← fr_tI hx, ← fr_tI hy, e]
  · intro e; rw [e]
theorem fr_I_lt {x y : Int} (hx : fr_i32 x) (hy : fr_i32 y) : fi_I x < fi_I y ↔ x < y := by rw [Int32.lt_iff_toInt_lt, fr_tI hx, fr_tI hy]
theorem fr_I_le {x y : Int} (hx : fr_i32 x) (hy : fr_i32 y) : fi_I x ≤ fi_I y ↔ x ≤ y := by rw [Int32.le_iff_toInt_le, fr_tI hx, fr_tI hy]
theorem fr_I_nat {x : Int} (hx : fr_i32 x) (h0 : 0 ≤ x) : (fi_I x).toNatClampNeg = x.toNat := by
  show (fi_I x).toInt.toNat = x.toNat
  rw [fr_tI hx]
theorem fr_I_in {x : Int} {n : Nat} (hx : fr_i32 x) (h0 : 0 ≤ x) (h1 : x < n) : ¬ (fi_I x < 0 ∨ n ≤ (fi_I x).toNatClampNeg) := by
  rw [fr_I_nat hx h0]
  rintro (h | h)
  · rw [Int32.lt_iff_toInt_lt, fr_tI hx] at h
    simp at h
    omega
  · omega
