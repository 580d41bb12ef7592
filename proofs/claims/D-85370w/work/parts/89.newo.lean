section
/-! new objects -/
set_option maxRecDepth 100000
def up (L : Nat → Int) (f : Nat) (v : Int) : Nat → Int := fun g => if g = f then v else L g
/-- h' is h with one new object r of class c, of n slots, its fields told by L -/
def NW (h : fi_H) (r c n : Int) (L : Nat → Int) (h' : fi_H) : Prop :=
  Hp h' ∧ r = h 2 0 0 + 1 ∧ (714 < r ∧ h' 2 0 0 = r) ∧ h' 3 0 0 = h 3 0 0 + n ∧ h' 0 r.toNat 0 = c ∧ (∀ f : Nat, 100 ≤ f → h' f r.toNat 0 = L f) ∧ ∀ f x i : Nat, 0 < x → (x : Int) ≤ h 2 0 0 → h' f x i = h f x i
section NEWO
variable {h h1 : fi_H} {r c n : Int} {L : Nat → Int}
theorem up_s (L : Nat → Int) (f : Nat) (v : Int) : up L f v f = v := if_pos rfl
theorem up_n (L : Nat → Int) {f g : Nat} (v : Int) (q : g ≠ f) : up L f v g = L g := if_neg q
theorem NW.new (H : Hp h) (c n : Int) (hc : 0 ≤ c) : NW h (h 2 0 0 + 1) c n (fun _ => 0) (fi_new h c n 0) := by
  have ht := H.1.2.2.1
  refine ⟨Hp.n H n hc ⟨by omega, by omega⟩, rfl, ⟨by omega, new_2 c n 0 H⟩, ?_, new_c c n 0 H 0, fun f hf => new_z c n 0 H 0 (by omega), fun f x i h0 hx => new_o c n 0 i (by omega) (by omega)⟩
  unfold fi_new
  rw [if_neg (by omega), if_pos rfl, if_neg (by decide), if_pos rfl]
theorem NW.hp (q : NW h r c n L h1) : Hp h1 := q.1
theorem NW.rg (q : NW h r c n L h1) : 302 < r ∧ 714 < r := ⟨by have := q.2.2.1; omega, q.2.2.1.1⟩
theorem NW.cl (q : NW h r c n L h1) : h1 0 r.toNat 0 = c := q.2.2.2.2.1
theorem NW.g (q : NW h r c n L h1) {f : Nat} (hf : 100 ≤ f) : h1 f r.toNat 0 = L f := q.2.2.2.2.2.1 f hf
theorem NW.o (q : NW h r c n L h1) (f : Nat) {x : Nat} (i : Nat) (hx : 0 < x ∧ (x : Int) ≤ h 2 0 0) : h1 f x i = h f x i := q.2.2.2.2.2.2 f x i hx.1 hx.2
theorem NW.set (q : NW h r c n L h1) (hc : c ≠ 0) {f : Nat} {v : Int} (hf : 100 ≤ f) (z : L f = 0) (hv : nt_ (h1 2 0 0) (fr_ty f) v) : NW h r c n (up L f v) (fi_upd h1 f r.toNat 0 v) := by
  obtain ⟨q1, q2, q3, q4, q5, q6, q7⟩ := q
  refine ⟨q1.uf (by omega) (by rw [q5]; exact hc) hf (by rw [q6 f hf]; exact z) hv, q2, ⟨q3.1, by rw [fi_upd_ne _ _ _ _ _ (by omega)]; exact q3.2⟩, by rw [fi_upd_ne _ _ _ _ _ (by omega)]; exact q4, by rw [fi_upd_ne _ _ _ _ _ (by omega)]; exact q5, fun g hg => ?_, fun g x i h0 hx => by rw [fi_upd_ne _ _ _ _ _ (by omega)]; exact q7 g x i h0 hx⟩
  by_cases e : g = f
  · subst e; rw [fi_upd_same, up_s]
  · rw [fi_upd_ne _ _ _ _ _ (by omega), up_n _ _ e]; exact q6 g hg
theorem NW.fr (q : NW h r c n L h1) (W : Nat → Nat → Nat → Prop) : Fr W h h1 := ⟨by have := q.2.1; have := q.2.2.1; omega, fun f x i h0 hx _ => q.2.2.2.2.2.2 f x i h0 hx⟩
/-- Part's constructor -/
theorem kA_Part (q : NW h r c n L h1) {d : Nat} (hc : 100 ≤ c ∧ c < 134) (hi : fi_in c 340 = true ∧ fi_in c 341 = true ∧ fi_in c 343 = true) (z : L 340 = 0 ∧ L 341 = 0 ∧ L 343 = 0) {κ g : Int} (hκ : 0 ≤ κ ∧ κ ≤ 9) (hg : -2147483648 ≤ g ∧ g < 2147483648) :
    ∃ h2, fj_run (d + 2) 245 h1 [(4, r), (4, 303), (4, κ), (0, g)] = some (.inl none, h2) ∧ NW h r c n (up (up (up L 343 303) 340 κ) 341 g) h2 := by
  have hr := q.rg
  have hne : c ≠ 0 := by omega
  have t1 := q.2.2.1
  have n1 := q.set hne (f := 343) (v := 303) (by decide) z.2.2 (show (0 : Int) ≤ 303 ∧ (303 : Int) ≤ h1 2 0 0 by omega)
  have t2 := n1.2.2.1
  have n2 := n1.set hne (f := 340) (v := κ) (by decide) ((up_n _ _ (by decide)).trans z.1) (show (0 : Int) ≤ κ ∧ κ ≤ _ by omega)
  have n3 := n2.set hne (f := 341) (v := g) (by decide) ((up_n _ _ (by decide)).trans ((up_n _ _ (by decide)).trans z.2.1)) (show -2147483648 ≤ g ∧ g < 2147483648 from hg)
  have c1 := n1.cl
  have c2 := n2.cl
  have z2 := n1.g (f := 340) (by decide)
  rw [up_n _ _ (by decide), z.1] at z2
  have z3 := n2.g (f := 341) (by decide)
  rw [up_n _ _ (by decide), up_n _ _ (by decide), z.2.1] at z3
  refine ⟨_, ?_, n3⟩
  rw [m_245 (d + 1) r 303 κ g q.hp.1 q.cl hne, q.cl, if_pos ⟨hr.1, hi.2.2, hc.2⟩, if_pos (fun _ => by rw [q.g (by decide)]; exact z.2.2), lt_eq, c1, if_pos hc, run_1009 d (by omega), cv_ret, c1, if_pos ⟨hr.1, hi.1, hc.2⟩, if_pos (fun _ => z2), lt_eq, c2, if_pos ⟨hr.1, hi.2.1, hc.2⟩, if_pos (fun _ => z3), lt_eq]
end NEWO
end
