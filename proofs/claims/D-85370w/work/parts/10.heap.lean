/-! the heap behind a store, behind a new cell -/
theorem fi_upd_same (h : fi_H) (f a i : Nat) (v : Int) : fi_upd h f a i v f a i = v := by simp [fi_upd]
theorem fi_upd_ne (h : fi_H) (f a i : Nat) (v : Int) {f' a' i' : Nat} (hn : ¬ (f' = f ∧ a' = a ∧ i' = i)) : fi_upd h f a i v f' a' i' = h f' a' i' := by simp [fi_upd, hn]
theorem fi_upd_f (h : fi_H) {f f' : Nat} (a i : Nat) (v : Int) (a' i' : Nat) (hn : f' ≠ f) : fi_upd h f a i v f' a' i' = h f' a' i' := fi_upd_ne h f a i v (fun q => hn q.1)
theorem fi_upd_a (h : fi_H) (f : Nat) {a a' : Nat} (i : Nat) (v : Int) (f' i' : Nat) (hn : a' ≠ a) : fi_upd h f a i v f' a' i' = h f' a' i' := fi_upd_ne h f a i v (fun q => hn q.2.1)
theorem fr_nv_mono {top top' : Int} (hle : top ≤ top') {v : FV} (h : fr_nv top v) : fr_nv top' v := by
  obtain ⟨t, x⟩ := v
  match t, h with
  | 0, h => exact h
  | 1, h => exact h
  | 2, h => exact h
  | 3, h => exact h
  | 4, h => exact ⟨h.1, Int.le_trans h.2 hle⟩
  | 5, h => exact h
  | n + 6, h => exact h.elim
theorem fr_nt_mono {top top' : Int} (hle : top ≤ top') {t : Nat} {x : Int} (h : fr_nt top t x) : fr_nt top' t x := ⟨h.1, fun h1 h2 => fr_nv_mono hle (h.2 h1 h2)⟩
theorem fr_ad_lt {G : fr_G} (hA : fr_A G) {h : fi_H} {H : Heap} (hR : fr_R G h H) {a : Nat} (h1 : 1 ≤ a) (h2 : (a : Int) ≤ h 2 0 0) : fr_ad G a < H.size := by
  obtain ⟨cell, hc, -⟩ := hR.2.2.2.2.2 a h1 h2
  exact (Array.getElem?_eq_some_iff.mp hc).1
theorem fr_ad_new {G : fr_G} {a : Nat} (h : fi_J < a) : fr_B G ≤ fr_ad G a := by
  unfold fr_ad
  rw [if_neg (by omega)]
  omega
/-- a field of a new cell is written -/
theorem fr_put {G : fr_G} (hA : fr_A G) {h : fi_H} {H H' : Heap} (hR : fr_R G h H) {a f : Nat} {v : Int} {cell : Cell} (ha : fi_J < a) (ha2 : (a : Int) ≤ h 2 0 0) (hf : 100 ≤ f) (hk : 100 ≤ h 0 a 0) (hin : fi_in (h 0 a 0) f = true) (hn : fr_nt (h 2 0 0) (fi_ft f) v)
    (hap : ∀ f', fi_in (h 0 a 0) f' = true → f' ≠ f → fr_sl G f' ≠ fr_sl G f) (hc : H[fr_ad G a]? = some cell)
    (e1 : H'[fr_ad G a]? = some (cell.setSlot (fr_sl G f) (fr_e G (fi_tg (fi_ft f), v)))) (e2 : H'.size = H.size) (e3 : ∀ q, q ≠ fr_ad G a → H'[q]? = H[q]?) : fr_R G (fi_upd h f a 0 v) H' := by
  have hp : ∀ (f' a' i' : Nat), f' < 100 → fi_upd h f a 0 v f' a' i' = h f' a' i' := fun f' a' i' q => fi_upd_f h _ _ _ _ _ (by omega)
  have h20 : fi_upd h f a 0 v 2 0 0 = h 2 0 0 := hp _ _ _ (by omega)
  have h0 : ∀ a' i', fi_upd h f a 0 v 0 a' i' = h 0 a' i' := fun a' i' => hp _ _ _ (by omega)
  have h1 : ∀ a' i', fi_upd h f a 0 v 1 a' i' = h 1 a' i' := fun a' i' => hp _ _ _ (by omega)
  refine ⟨by rw [h20]; exact hR.1, by rw [h20, e2]; exact hR.2.1, fun f' a' i' => ?_, fun a' => by rw [h1]; exact hR.2.2.2.1 a', fun q hq => ?_, fun a' h1a h2a => ?_⟩
  · rw [h20]
    by_cases hh : f' = f ∧ a' = a ∧ i' = 0
    · obtain ⟨rfl, rfl, rfl⟩ := hh
      rw [fi_upd_same]
      unfold fr_ty
      rw [if_neg (by omega)]
      exact hn
    · rw [fi_upd_ne _ _ _ _ _ hh]
      exact hR.2.2.1 f' a' i'
  · have hge := fr_ad_new (G := G) ha
    rw [e3 q (by omega)]
    exact hR.2.2.2.2.1 q hq
  · rw [h20] at h2a
    by_cases haa : a' = a
    · subst haa
      refine ⟨_, e1, ?_⟩
      obtain ⟨cell', hc', hC⟩ := hR.2.2.2.2.2 a' h1a h2a
      cases hc.symm.trans hc'
      unfold fr_C at hC ⊢
      rw [h0]
      rw [if_neg (by omega)] at hC ⊢
      refine ⟨hC.1, hC.2.1, fun f' hf' => ?_⟩
      show (cell.slots.setIfInBounds (fr_sl G f) _)[fr_sl G f']? = _
      by_cases hff : f' = f
      · subst hff
        rw [fi_upd_same]
        have hlt := k2_hasslot (hC.2.2 f' hf')
        simp [hlt]
      · rw [fi_upd_f _ _ _ _ _ _ hff, Array.getElem?_setIfInBounds_ne (fun q => hap f' hf' hff q.symm)]
        exact hC.2.2 f' hf'
    · obtain ⟨cell', hc', hC⟩ := hR.2.2.2.2.2 a' h1a h2a
      have hne : fr_ad G a' ≠ fr_ad G a := fun q => haa (fr_ad_inj hA h1a (by omega) q)
      refine ⟨cell', by rw [e3 _ hne]; exact hc', ?_⟩
      have hall : ∀ f' i', fi_upd h f a 0 v f' a' i' = h f' a' i' := fun f' i' => fi_upd_a h f 0 v f' i' haa
      unfold fr_C at hC ⊢
      simp only [hall]
      exact hC
/-- a place of a new array is written -/
theorem fr_ast {G : fr_G} (hA : fr_A G) {h : fi_H} {H H' : Heap} (hR : fr_R G h H) {a i : Nat} {v : Int} {cell : Cell} (ha : fi_J < a) (ha2 : (a : Int) ≤ h 2 0 0) (hk4 : 4 ≤ h 0 a 0) (hk : h 0 a 0 < 100) (hn : fr_nt (h 2 0 0) (fr_el (h 0 a 0)) v)
    (hc : H[fr_ad G a]? = some cell)
    (e1 : H'[fr_ad G a]? = some (cell.setSlot i (fr_e G (fi_tg (fr_el (h 0 a 0)), v)))) (e2 : H'.size = H.size) (e3 : ∀ q, q ≠ fr_ad G a → H'[q]? = H[q]?) : fr_R G (fi_upd h (fr_el (h 0 a 0)) a i v) H' := by
  obtain ⟨f, hf⟩ : ∃ f, f = fr_el (h 0 a 0) := ⟨_, rfl⟩
  have hf4 : 4 ≤ f ∧ f ≤ 12 := by
    rw [hf]; unfold fr_el
    split
    · omega
    · omega
  rw [← hf] at e1 hn ⊢
  have hp : ∀ (f' a' i' : Nat), f' ≠ f → fi_upd h f a i v f' a' i' = h f' a' i' := fun f' a' i' q => fi_upd_f h _ _ _ _ _ q
  have h20 : fi_upd h f a i v 2 0 0 = h 2 0 0 := hp _ _ _ (by omega)
  have h0 : ∀ a' i', fi_upd h f a i v 0 a' i' = h 0 a' i' := fun a' i' => hp _ _ _ (by omega)
  have h1 : ∀ a' i', fi_upd h f a i v 1 a' i' = h 1 a' i' := fun a' i' => hp _ _ _ (by omega)
  refine ⟨by rw [h20]; exact hR.1, by rw [h20, e2]; exact hR.2.1, fun f' a' i' => ?_, fun a' => by rw [h1]; exact hR.2.2.2.1 a', fun q hq => ?_, fun a' h1a h2a => ?_⟩
  · rw [h20]
    by_cases hh : f' = f ∧ a' = a ∧ i' = i
    · obtain ⟨q1, rfl, rfl⟩ := hh
      rw [q1, fi_upd_same]
      unfold fr_ty
      rw [if_pos (by omega)]
      exact hn
    · rw [fi_upd_ne _ _ _ _ _ hh]
      exact hR.2.2.1 f' a' i'
  · have hge := fr_ad_new (G := G) ha
    rw [e3 q (by omega)]
    exact hR.2.2.2.2.1 q hq
  · rw [h20] at h2a
    by_cases haa : a' = a
    · subst haa
      refine ⟨_, e1, ?_⟩
      obtain ⟨cell', hc', hC⟩ := hR.2.2.2.2.2 a' h1a h2a
      cases hc.symm.trans hc'
      unfold fr_C at hC ⊢
      rw [h0, h1]
      rw [if_pos hk] at hC ⊢
      refine ⟨hC.1, ?_⟩
      rw [hC.2, ← hf, arrV_store]
      congr 1
      funext j
      unfold updV
      by_cases hj : j = i
      · rw [if_pos hj, hj, fi_upd_same]
      · rw [if_neg hj, fi_upd_ne _ _ _ _ _ (fun q => hj q.2.2)]
    · obtain ⟨cell', hc', hC⟩ := hR.2.2.2.2.2 a' h1a h2a
      have hne : fr_ad G a' ≠ fr_ad G a := fun q => haa (fr_ad_inj hA h1a (by omega) q)
      refine ⟨cell', by rw [e3 _ hne]; exact hc', ?_⟩
      have hall : ∀ f' i', fi_upd h f a i v f' a' i' = h f' a' i' := fun f' i' => fi_upd_a h f i v f' i' haa
      unfold fr_C at hC ⊢
      simp only [hall]
      exact hC
theorem fi_new_old (h : fi_H) (k n len : Int) {f a i : Nat} (ha : 1 ≤ a) (ha2 : (a : Int) ≤ h 2 0 0) : fi_new h k n len f a i = h f a i := by
  unfold fi_new
  rw [if_neg (by omega), if_neg (by omega)]
theorem fi_new_top (h : fi_H) (k n len : Int) (h0 : 0 ≤ h 2 0 0) : fi_new h k n len 2 0 0 = h 2 0 0 + 1 := by
  unfold fi_new
  rw [if_neg (by omega)]
  rfl
theorem fi_new_slots (h : fi_H) (k n len : Int) (h0 : 0 ≤ h 2 0 0) : fi_new h k n len 3 0 0 = h 3 0 0 + n := by
  unfold fi_new
  rw [if_neg (by omega)]
  rfl
theorem fi_new_at (h : fi_H) (k n len : Int) (f i : Nat) {a : Nat} (ha : (a : Int) = h 2 0 0 + 1) : fi_new h k n len f a i = if f = 0 then k else if f = 1 then len else 0 := by
  unfold fi_new
  rw [if_pos ha]
theorem fr_nt_0 (top : Int) (ht : 0 ≤ top) (t : Nat) : fr_nt top t 0 := by
  refine ⟨?_, fun _ _ => ?_⟩
  · unfold fi_rg
    repeat' split
    all_goals simp
  · unfold fi_tg
    repeat' split
    · exact ⟨by decide, by decide⟩
    · exact ⟨by decide, by decide⟩
    · exact ⟨by decide, by decide⟩
    · exact ⟨Int.le_refl 0, ht⟩
    · exact ⟨by decide, by decide⟩
/-- a new cell -/
theorem fr_newR {G : fr_G} (hA : fr_A G) {h : fi_H} {H H' : Heap} (hR : fr_R G h H) {k n len : Int} (hlen : 0 ≤ len ∧ len < 65536) {cell : Cell} (e1 : H'[H.size]? = some cell) (e2 : H'.size = H.size + 1) (e3 : ∀ q, q < H.size → H'[q]? = H[q]?)
    (hC : ∀ a : Nat, (a : Int) = h 2 0 0 + 1 → fr_C G (fi_new h k n len) a cell) : fr_R G (fi_new h k n len) H' ∧ fr_ad G (h 2 0 0 + 1).toNat = H.size := by
  have hJ := hR.1
  have htop := fi_new_top h k n len (by omega)
  have hsz := hR.2.1
  have had : fr_ad G (h 2 0 0 + 1).toNat = H.size := by
    unfold fr_ad
    rw [if_neg (by omega)]
    omega
  refine ⟨⟨by rw [htop]; omega, by rw [htop, e2, hsz]; omega, fun f a i => ?_, fun a => ?_, fun q hq => ?_, fun a h1a h2a => ?_⟩, had⟩
  · rw [htop]
    by_cases h1 : (a : Int) = h 2 0 0 + 1
    · rw [fi_new_at _ _ _ _ _ _ h1]
      split
      · rename_i q; rw [q]; refine ⟨rfl, fun h4 => ?_⟩; simp [fr_ty] at h4
      · split
        · rename_i q; rw [q]; refine ⟨rfl, fun h4 => ?_⟩; simp [fr_ty] at h4
        · exact fr_nt_0 _ (by omega) _
    · have : fr_nt (h 2 0 0 + 1) (fr_ty f) (h f a i) := fr_nt_mono (by omega) (hR.2.2.1 f a i)
      unfold fi_new
      rw [if_neg h1]
      split
      · split
        · rename_i q; rw [q]; refine ⟨rfl, fun h4 => ?_⟩; simp [fr_ty] at h4
        · split
          · rename_i q; rw [q]; refine ⟨rfl, fun h4 => ?_⟩; simp [fr_ty] at h4
          · exact this
      · exact this
  · by_cases h1 : (a : Int) = h 2 0 0 + 1
    · rw [fi_new_at _ _ _ _ _ _ h1]; exact hlen
    · have := hR.2.2.2.1 a
      unfold fi_new
      rw [if_neg h1]
      split
      · exact this
      · exact this
  · have hB : q < H.size := by omega
    rw [e3 q hB]
    exact hR.2.2.2.2.1 q hq
  · rw [htop] at h2a
    by_cases h1 : (a : Int) = h 2 0 0 + 1
    · refine ⟨cell, ?_, hC a h1⟩
      have : a = (h 2 0 0 + 1).toNat := by omega
      rw [this, had]
      exact e1
    · obtain ⟨cell', hc', hC'⟩ := hR.2.2.2.2.2 a h1a (by omega)
      refine ⟨cell', by rw [e3 _ (Array.getElem?_eq_some_iff.mp hc').1]; exact hc', ?_⟩
      have hall : ∀ f i, fi_new h k n len f a i = h f a i := fun f i => fi_new_old h k n len h1a (by omega)
      unfold fr_C at hC' ⊢
      simp only [hall]
      exact hC'
