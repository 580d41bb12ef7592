/-! lengths, new cells, casts over the machine -/
def fp_ck : Prop := ∀ o i k, fi_ck o i = some k → ∃ own, fi_cn[o]? = some own ∧ Cond.classLink own i (fr_nm k) ∈ lw_all
def fp_new : Prop := ∀ c : Nat, c < 34 → ∃ C, fi_cn[c]? = some C ∧ Cond.instantiable C (fi_ns.getD c 0) ∈ lw_all ∧ Cond.initialized C ∈ lw_all
def fp_arr : Prop := (∀ t : Nat, 4 ≤ t → t ≤ 11 → Cond.arrayClass (fr_pt t) ∈ lw_all) ∧ ∀ k : Nat, 20 ≤ k → k < 30 → Cond.arrayOver (fr_rt k) ∈ lw_tbl
theorem fr_rep {α : Type} (n : Nat) (v : α) : Array.replicate n v = Array.ofFn (n := n) fun _ => v := by
  apply Array.ext_getElem?
  intro i
  by_cases hi : i < n <;> simp [hi]
theorem fr_obi : ∀ c, c < 34 → fr_ob (100 + c) = true := by decide +kernel
section FN
variable {p : Program} {l : Launch} {e : Env} {R : Room} {s S0 : State} {m : MethodId} {args a0 : Array Value} {below : List Frame} {meth : Method} {c : Code} {H : Heap} {locs : List Loc} {cells slots : Nat} {Q : State → Prop}
variable {cc : ByteArray} {pc len : Nat} {ls : Array Slot} {G : fr_G} {st : List FV} {h : fi_H} {own : String} {o i f : Nat} {ins : Instr}
theorem fs_alen (hx : p.tables.exec = Jvm.exec) (hb : c.code = cc) (hS : fr_St G S0 a0) (hW : S0.WarmedH s.vm) (hd : decode cc pc = .ok (.arraylength, 1)) (hR : fr_R G h H) {r : Int} (hr : fr_nv (h 2 0 0) (4, r)) (hr0 : ¬ r = 0) (hk : 4 ≤ h 0 r.toNat 0 ∧ (h 0 r.toNat 0 ≤ 11 ∨ 20 ≤ h 0 r.toNat 0) ∧ h 0 r.toNat 0 < 30)
    (kk : fr_nv (h 2 0 0) (0, h 1 r.toNat 0) → W p l e R s m args below meth c H locs cells slots Q (F0 m (pc + 1) ls (((0, h 1 r.toNat 0) :: st).map (fr_e G)))) : W p l e R s m args below meth c H locs cells slots Q (F0 m pc ls (((4, r) :: st).map (fr_e G))) := by
  obtain ⟨-, hc⟩ := fr_arr hR hr hr0 (by omega)
  have hl := hR.2.2.2.1 r.toNat
  have kk := kk (show fr_i32 _ from ⟨by omega, by omega⟩)
  show W p l e R s m args below meth c H locs cells slots Q (F0 m pc ls (fr_rv G r :: st.map (fr_e G)))
  unfold fr_rv
  rw [if_neg hr0]
  have hn : (arrV (fr_cl G (h 0 r.toNat 0).toNat) (h 1 r.toNat 0).toNat (fun i => fr_e G (fi_tg (fr_el (h 0 r.toNat 0)), h (fr_el (h 0 r.toNat 0)) r.toNat i))).slots.size.toInt32 = fi_I (h 1 r.toNat 0) := by
    rw [arrV_size]
    rw [(fr_char hl).1]
    rfl
  rcases hk with ⟨h4, h11 | h20, h30⟩
  · exact W.alen hx hb hc (fr_isA hS hW (Or.inl ⟨h4, h11, rfl⟩) _ _) hn rfl rfl hd kk
  · exact W.alen hx hb hc (fr_isA hS hW (Or.inr ⟨h20, h30, rfl⟩) _ _) hn rfl rfl hd kk
theorem fs_new (hx : p.tables.exec = Jvm.exec) (hb : c.code = cc) (hS : fr_St G S0 a0) (hW : S0.WarmedH s.vm) (pt : fp_ty) (pl : fp_lay) (pc9 : fp_ck) (pw : fp_new) (hown : s.vm.findClass own = some m.cls) (ho : fi_cn[o]? = some own) (hd : decode cc pc = .ok (.new i, 3)) {k : Nat} (hf : fi_ck o i = some k) (hk : 100 ≤ k ∧ k < 134)
    (hR : fr_R G h H) (hcells : cells + 1 ≤ R.cells) (hslots : slots + fi_ns.getD (k - 100) 0 ≤ R.slots)
    (kk : ∀ H', fr_R G (fi_new h k (fi_ns.getD (k - 100) 0) 0) H' → W p l e R s m args below meth c H' locs (cells + 1) (slots + fi_ns.getD (k - 100) 0) Q (F0 m (pc + 3) ls (((4, h 2 0 0 + 1) :: st).map (fr_e G)))) : W p l e R s m args below meth c H locs cells slots Q (F0 m pc ls (st.map (fr_e G))) := by
  obtain ⟨own', ho', hcl⟩ := pc9 o i k hf
  cases ho.symm.trans ho'
  obtain ⟨C, hC, hins, hini⟩ := pw (k - 100) (by omega)
  have hnm : fr_nm k = C := by
    unfold fr_nm
    rw [if_neg (by omega), if_neg (by omega), if_neg (by omega), if_neg (by omega), if_neg (by omega), List.getD_eq_getElem?_getD, hC]; rfl
  rw [hnm] at hcl
  have hJ := hR.1
  have hin0 := fw (args := args) hS hW hins
  obtain ⟨cC, kC, hfc, hkC, hkind, -⟩ := Cond.instantiable_spec hin0
  refine W.newcK hx hb hown (fw hS hW hcl) hin0 (fw hS hW hini) rfl hd hcells hslots hfc rfl (fun H' kC' hkC' e1 z1 o1 => ?_)
  cases hkC.symm.trans hkC'
  have hcid : cC = fr_cl G k := by
    have hob := fr_obi (k - 100) (by omega)
    rw [show 100 + (k - 100) = k by omega] at hob
    have hcl2 := (classAt_moved hW.alike (hS.2.2.2.1 k hob)).1
    rw [List.getD_eq_getElem?_getD, hC] at hcl2
    exact Option.some.inj (hfc.symm.trans hcl2)
  obtain ⟨hR2, had⟩ := fr_newR hS.2.1 hR (k := k) (n := fi_ns.getD (k - 100) 0) (len := 0) ⟨by omega, by omega⟩ e1 z1 o1 (fun a ha => by
    have hall := fun f i => fi_new_at h k (fi_ns.getD (k - 100) 0) 0 f i ha
    unfold fr_C
    rw [hall]
    rw [if_pos rfl, if_neg (by omega)]
    refine ⟨by rw [Int.toNat_natCast, ← hcid]; rfl, rfl, fun f hf => ?_⟩
    obtain ⟨hf1, C', q, hC', hq, hlay⟩ := pl (k - 100) f (by omega) (by rw [show (100 + ((k - 100 : Nat) : Int)) = (k : Int) by omega]; exact hf)
    cases hC.symm.trans hC'
    obtain ⟨cf, kf, fi, fd, h1, h2, h3⟩ := fr_ff_moved hW.alike (hS.2.2.1 f q hf1 hq)
    have e2 : (Cond.lays C q.1 q.2.1 q.2.2.1).before #[] s = true ∨ (Cond.laysFinal C q.1 q.2.1 q.2.2.1).before #[] s = true := by
      have := fw (args := #[]) hS hW hlay
      split at this
      · exact Or.inr this
      · exact Or.inl this
    have h5 := (u_facts hfc hkC e2 h1).2.2
    obtain ⟨ty, hpd, htc⟩ := pt f q hf1 hq
    rw [(State.fieldFound?_type h1 hpd).2] at h5
    rw [← h2, k2_blank h5, hall, if_neg (by omega), if_neg (by omega), ← htc]
    cases ty <;> rfl)
  have := kk H' hR2
  show W p l e R s m args below meth c H' locs (cells + 1) (slots + fi_ns.getD (k - 100) 0) Q (F0 m (pc + 3) ls (.ref H.size :: st.map (fr_e G)))
  have e9 : fr_e G (4, h 2 0 0 + 1) = .ref H.size := by
    show fr_rv G (h 2 0 0 + 1) = _
    unfold fr_rv
    rw [if_neg (by omega), had]
  rw [List.map_cons, e9] at this
  exact this
theorem fs_newa (hx : p.tables.exec = Jvm.exec) (hb : c.code = cc) (hS : fr_St G S0 a0) (hW : S0.WarmedH s.vm) (pa : fp_arr) {at9 : ArrayType} (hd : decode cc pc = .ok (.newarray at9, 2)) {n : Int} (hn : 0 ≤ n ∧ n < 65536)
    (hR : fr_R G h H) (hcells : cells + 1 ≤ R.cells) (hslots : slots + n.toNat ≤ R.slots)
    (kk : ∀ H', fr_R G (fi_new h (fi_atc at9) n n) H' → W p l e R s m args below meth c H' locs (cells + 1) (slots + n.toNat) Q (F0 m (pc + 2) ls (((4, h 2 0 0 + 1) :: st).map (fr_e G)))) : W p l e R s m args below meth c H locs cells slots Q (F0 m pc ls (((0, n) :: st).map (fr_e G))) := by
  have hJ := hR.1
  have hni : fr_i32 n := ⟨by omega, by omega⟩
  have hcl : (fi_I n).toNatClampNeg = n.toNat := fr_I_nat hni hn.1
  have hty : newarray.typeOf at9 = fr_pt (fi_atc at9) ∧ 4 ≤ fi_atc at9 ∧ fi_atc at9 ≤ 11 := by cases at9 <;> exact ⟨rfl, by decide, by decide⟩
  have hneg : ¬ fi_I n < 0 := by
    rw [Int32.lt_iff_toInt_lt, fr_tI hni]
    simp
    omega
  have hby : n.toNat * componentBytes (newarray.typeOf at9) ≤ 536870912 := by
    have : componentBytes (newarray.typeOf at9) ≤ 8 := by cases at9 <;> decide
    have h2 : n.toNat * componentBytes (newarray.typeOf at9) ≤ n.toNat * 8 := Nat.mul_le_mul_left _ this
    omega
  refine W.newa hx hb (by rw [hty.1]; exact fw hS hW (pa.1 _ hty.2.1 hty.2.2)) rfl hd rfl hneg (by show (fi_I n).toNatClampNeg * _ ≤ _; rw [hcl]; exact hby) hcells (by show slots + (fi_I n).toNatClampNeg ≤ _; rw [hcl]; exact hslots) (fun cA kA comp h1 h2 h3 => ?_)
  show W p l e R s m args below meth c (H.push { cls := cA, slots := Array.replicate (fi_I n).toNatClampNeg (defaultValue (newarray.typeOf at9)), vm := .none }) locs (cells + 1) (slots + (fi_I n).toNatClampNeg) Q (F0 m (pc + 2) ls (.ref H.size :: st.map (fr_e G)))
  rw [hcl]
  have hcid : cA = fr_cl G (fi_atc at9) := by
    have := (hS.2.2.2.2.1 (fi_atc at9) hty.2.1 hty.2.2).1
    rw [← hW.alike.findClass, ← hty.1] at this
    exact Option.some.inj (h1.symm.trans this)
  have hcell : ({ cls := cA, slots := Array.replicate n.toNat (defaultValue (newarray.typeOf at9)), vm := .none } : Cell) = arrV cA n.toNat (fun _ => defaultValue (newarray.typeOf at9)) := by
    unfold arrV
    rw [fr_rep]
  rw [hcell]
  obtain ⟨hR2, had⟩ := fr_newR hS.2.1 hR (H' := H.push (arrV cA n.toNat (fun _ => defaultValue (newarray.typeOf at9)))) (cell := arrV cA n.toNat (fun _ => defaultValue (newarray.typeOf at9))) (k := fi_atc at9) (n := n) (len := n) hn (by simp) (by simp) (fun q hq => by simp [Array.getElem?_push, Nat.ne_of_lt hq]) (fun a ha => by
    have hr9 := hty.2
    have b0 : ∀ i, fi_new h (fi_atc at9) n n 0 a i = fi_atc at9 := fun i => by rw [fi_new_at _ _ _ _ _ _ ha, if_pos rfl]
    have b1 : fi_new h (fi_atc at9) n n 1 a 0 = n := by rw [fi_new_at _ _ _ _ _ _ ha, if_neg (by decide), if_pos rfl]
    have bz : ∀ f i, 2 ≤ f → fi_new h (fi_atc at9) n n f a i = 0 := fun f i hf => by rw [fi_new_at _ _ _ _ _ _ ha, if_neg (by omega), if_neg (by omega)]
    have hel : fr_el (fi_atc at9 : Int) = fi_atc at9 := by unfold fr_el; rw [if_pos (by omega)]; simp
    unfold fr_C
    rw [b0, if_pos (by omega), b1, hel, Int.toNat_natCast, ← hcid]
    refine ⟨by omega, ?_⟩
    congr 1
    funext j
    rw [bz _ _ (by omega)]
    cases at9 <;> rfl)
  have := kk _ hR2
  have e9 : fr_e G (4, h 2 0 0 + 1) = .ref H.size := by
    show fr_rv G (h 2 0 0 + 1) = _
    unfold fr_rv
    rw [if_neg (by omega), had]
  rw [List.map_cons, e9] at this
  exact this
theorem fs_anew (hx : p.tables.exec = Jvm.exec) (hb : c.code = cc) (hS : fr_St G S0 a0) (hW : S0.WarmedH s.vm) (pc9 : fp_ck) (pa : fp_arr) (hown : s.vm.findClass own = some m.cls) (ho : fi_cn[o]? = some own) (hd : decode cc pc = .ok (.anewarray i, 3)) {k : Nat} (hf : fi_ck o i = some k) (hk : 20 ≤ fi_over k) {n : Int} (hn : 0 ≤ n ∧ n < 65536)
    (hR : fr_R G h H) (hcells : cells + 1 ≤ R.cells) (hslots : slots + n.toNat ≤ R.slots)
    (kk : ∀ H', fr_R G (fi_new h (fi_over k) n n) H' → W p l e R s m args below meth c H' locs (cells + 1) (slots + n.toNat) Q (F0 m (pc + 3) ls (((4, h 2 0 0 + 1) :: st).map (fr_e G)))) : W p l e R s m args below meth c H locs cells slots Q (F0 m pc ls (((0, n) :: st).map (fr_e G))) := by
  obtain ⟨own', ho', hlk⟩ := pc9 o i k hf
  cases ho.symm.trans ho'
  have hJ := hR.1
  have hni : fr_i32 n := ⟨by omega, by omega⟩
  have hcl : (fi_I n).toNatClampNeg = n.toNat := fr_I_nat hni hn.1
  have hneg : ¬ fi_I n < 0 := by
    rw [Int32.lt_iff_toInt_lt, fr_tI hni]
    simp
    omega
  obtain ⟨kk9, hkk, hkr, hk8⟩ : ∃ kk9 : Nat, fi_over k = (kk9 : Int) ∧ fr_rt kk9 = .object (fr_nm k) ∧ 20 ≤ kk9 ∧ kk9 < 30 := by
    unfold fi_over at hk ⊢
    have hc : k = 189 ∨ k = 124 ∨ k = 110 ∨ k = 117 ∨ k = 120 ∨ k = 131 ∨ k = 126 ∨ k = 166 ∨ k = 104 := by
      apply Classical.byContradiction
      intro hne
      simp only [not_or] at hne
      simp [hne] at hk
    rcases hc with rfl | rfl | rfl | rfl | rfl | rfl | rfl | rfl | rfl
    · exact ⟨20, rfl, by decide, by decide⟩
    · exact ⟨21, rfl, by decide, by decide⟩
    · exact ⟨22, rfl, by decide, by decide⟩
    · exact ⟨23, rfl, by decide, by decide⟩
    · exact ⟨24, rfl, by decide, by decide⟩
    · exact ⟨25, rfl, by decide, by decide⟩
    · exact ⟨26, rfl, by decide, by decide⟩
    · exact ⟨27, rfl, by decide, by decide⟩
    · exact ⟨29, rfl, by decide, by decide⟩
  have hst9 := hS.2.2.2.2.2.1 kk9 hk8.1 hk8.2
  rw [hkr] at hst9
  have hov : (Cond.arrayOver (.object (fr_nm k))).before args s = true := by
    have h0 := hS.1 _ (pa.2 kk9 hk8.1 hk8.2)
    rw [hkr] at h0
    exact va_AO.use (va_AO.moved hW.alike (va_AO.of h0))
  refine W.anew hx hb hown (fw hS hW hlk) hov rfl hd rfl hneg (by show (fi_I n).toNatClampNeg * _ ≤ _; rw [hcl]; omega) hcells (by show slots + (fi_I n).toNatClampNeg ≤ _; rw [hcl]; exact hslots) (fun cA kA comp h1 h2 h3 h4 => ?_)
  show W p l e R s m args below meth c (H.push { cls := cA, slots := Array.replicate (fi_I n).toNatClampNeg .null, vm := .none }) locs (cells + 1) (slots + (fi_I n).toNatClampNeg) Q (F0 m (pc + 3) ls (.ref H.size :: st.map (fr_e G)))
  rw [hcl]
  have hcid : cA = fr_cl G kk9 := by
    have := hst9.1
    rw [← hW.alike.findClass] at this
    exact Option.some.inj (h1.symm.trans this)
  have hcell : ({ cls := cA, slots := Array.replicate n.toNat .null, vm := .none } : Cell) = arrV cA n.toNat (fun _ => .null) := by
    unfold arrV
    rw [fr_rep]
  rw [hcell]
  obtain ⟨hR2, had⟩ := fr_newR hS.2.1 hR (H' := H.push (arrV cA n.toNat (fun _ => .null))) (cell := arrV cA n.toNat (fun _ => .null)) (k := fi_over k) (n := n) (len := n) hn (by simp) (by simp) (fun q hq => by simp [Array.getElem?_push, Nat.ne_of_lt hq]) (fun a ha => by
    have b0 : ∀ i, fi_new h (fi_over k) n n 0 a i = (kk9 : Int) := fun i => by rw [fi_new_at _ _ _ _ _ _ ha, if_pos rfl, hkk]
    have b1 : fi_new h (fi_over k) n n 1 a 0 = n := by rw [fi_new_at _ _ _ _ _ _ ha, if_neg (by decide), if_pos rfl]
    have bz : ∀ f i, 2 ≤ f → fi_new h (fi_over k) n n f a i = 0 := fun f i hf => by rw [fi_new_at _ _ _ _ _ _ ha, if_neg (by omega), if_neg (by omega)]
    have hel : fr_el (kk9 : Int) = 12 := by unfold fr_el; rw [if_neg (by omega)]
    unfold fr_C
    rw [b0, if_pos (by omega), b1, hel, Int.toNat_natCast, ← hcid]
    refine ⟨by omega, ?_⟩
    congr 1
    funext j
    rw [bz _ _ (by omega)]
    rfl)
  have := kk _ hR2
  have e9 : fr_e G (4, h 2 0 0 + 1) = .ref H.size := by
    show fr_rv G (h 2 0 0 + 1) = _
    unfold fr_rv
    rw [if_neg (by omega), had]
  rw [List.map_cons, e9] at this
  exact this
end FN
