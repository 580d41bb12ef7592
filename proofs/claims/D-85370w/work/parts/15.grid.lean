/-! multianewarray over the machine -/
theorem fg_outer (cA : ClassId) (N h0 : Nat) : ∀ i, Jvm.Free.Multi.outerC cA N h0 i = arrV cA N (fun j => if j < i then .ref (h0 + 1 + j) else .null)
  | 0 => by
    show ({ cls := cA, slots := Array.replicate N .null, vm := .none } : Cell) = _
    unfold arrV
    rw [fr_rep]
    simp
  | i + 1 => by
    show (Jvm.Free.Multi.outerC cA N h0 i).setSlot i (.ref (h0 + 1 + i)) = _
    rw [fg_outer cA N h0 i, arrV_store]
    congr 1
    funext j
    unfold updV
    by_cases hj : j = i
    · subst hj; simp
    · rw [if_neg hj]
      show (if j < i then Value.ref (h0 + 1 + j) else Value.null) = _
      by_cases h2 : j < i
      · rw [if_pos h2, if_pos (by omega)]
      · rw [if_neg h2, if_neg (by omega)]
theorem fx_aoB {t : FieldType} {u U : State} {a a' : Array Value} (hal : u.vm.Alike U.vm) (h : (Cond.arrayOver (.array t)).before a u = true) : (Cond.arrayOver (.array t)).before a' U = true := by
  have h' : (Cond.arrayOver (.array t)).holds a u none u [] = true := h
  simp only [Cond.holds, Cond.value, beq_iff_eq] at h'
  cases hc : u.vm.findClass (FieldType.array t).toString with
  | none => simp [hc] at h'
  | some comp =>
    simp only [hc, Option.bind_some, Option.bind_eq_some_iff, Option.map_eq_some_iff] at h'
    obtain ⟨c, hi, k, hk, hb⟩ := h'
    obtain ⟨k', hk', hek'⟩ := hal.2.2 _ _ hk
    have hkind' : k'.kind = k.kind := by rw [hek']
    have hcomp' : U.vm.findClass (FieldType.array t).toString = some comp := by rw [hal.findClass]; exact hc
    show (Cond.arrayOver (.array t)).holds a' U none U [] = true
    simp only [Cond.holds, Cond.value, hcomp', Option.bind_some, beq_iff_eq]
    rw [Option.bind_eq_some_iff]
    refine ⟨c, (hal.findIdx?_eqK _ (fun _ => rfl)).trans hi, ?_⟩
    rw [hk', Option.map_some, hkind']
    have hfc : U.vm.findClass ("[" ++ (FieldType.array t).toString) = u.vm.findClass ("[" ++ (FieldType.array t).toString) := by rw [hal.findClass]
    rw [hfc]
    exact congrArg some hb
section FGr
variable {p : Program} {l : Launch} {e : Env} {R : Room} {s S0 : State} {m : MethodId} {args a0 : Array Value} {below : List Frame} {meth : Method} {c : Code} {H : Heap} {locs : List Loc} {cells slots : Nat} {Q : State → Prop}
variable {cc : ByteArray} {pc len : Nat} {ls : Array Slot} {G : fr_G} {st : List FV} {h : fi_H} {own : String} {o i f : Nat} {ins : Instr}
theorem fg_R (hA : fr_A G) {H' : Heap} (hR : fr_R G h H) {n k : Int} (hn : 0 ≤ n ∧ n < 256) (hk : 0 ≤ k ∧ k < 256)
    (e1 : H'.size = H.size + 1 + n.toNat) (e2 : ∀ q, q < H.size → H'[q]? = H[q]?) (e3 : H'[H.size]? = some (arrV (fr_cl G 28) n.toNat (fun j => if j < n.toNat then .ref (H.size + 1 + j) else .null)))
    (e4 : ∀ j, j < n.toNat → H'[H.size + 1 + j]? = some (arrV (fr_cl G 4) k.toNat (fun _ => .int 0))) : fr_R G (fi_grid h n k) H' ∧ fr_ad G (h 2 0 0 + 1).toNat = H.size := by
  have hJ := hR.1
  have hsz := hR.2.1
  have had : ∀ a : Nat, h 2 0 0 < a → fr_ad G a = H.size + (a - (h 2 0 0 + 1).toNat) := by
    intro a ha
    unfold fr_ad
    rw [if_neg (by omega)]
    omega
  have g2 : fi_grid h n k 2 0 0 = h 2 0 0 + 1 + n := by
    unfold fi_grid
    rw [if_neg (by omega), if_neg (by omega)]
    rfl
  have gold : ∀ (f a i : Nat), 1 ≤ a → (a : Int) ≤ h 2 0 0 → fi_grid h n k f a i = h f a i := by
    intro f a i h1 h2
    unfold fi_grid
    rw [if_neg (by omega), if_neg (by omega), if_neg (by omega)]
  have gout : ∀ (f a i : Nat), (a : Int) = h 2 0 0 + 1 → fi_grid h n k f a i = if f = 0 then 28 else if f = 1 then n else if f = 12 ∧ (i : Int) < n then h 2 0 0 + 2 + i else 0 := by
    intro f a i h1
    unfold fi_grid
    rw [if_pos h1]
  have grow : ∀ (f a i : Nat), h 2 0 0 + 1 < a → (a : Int) ≤ h 2 0 0 + 1 + n → fi_grid h n k f a i = if f = 0 then 4 else if f = 1 then k else 0 := by
    intro f a i h1 h2
    unfold fi_grid
    rw [if_neg (by omega), if_pos ⟨h1, h2⟩]
  refine ⟨⟨by rw [g2]; omega, by rw [g2, e1, hsz]; omega, fun f a i => ?_, fun a => ?_, fun q hq => ?_, fun a h1a h2a => ?_⟩, by rw [had _ (by omega)]; omega⟩
  · rw [g2]
    unfold fi_grid
    split
    · split
      · rename_i q; subst q; exact ⟨rfl, fun h4 => by simp [fr_ty] at h4⟩
      · split
        · rename_i q; subst q; exact ⟨rfl, fun h4 => by simp [fr_ty] at h4⟩
        · split
          · rename_i q
            rw [q.1]
            exact ⟨rfl, fun _ _ => (⟨by omega, by omega⟩ : 0 ≤ h 2 0 0 + 2 + (i : Int) ∧ h 2 0 0 + 2 + (i : Int) ≤ h 2 0 0 + 1 + n)⟩
          · exact fr_nt_0 _ (by omega) _
    · split
      · split
        · rename_i q; subst q; exact ⟨rfl, fun h4 => by simp [fr_ty] at h4⟩
        · split
          · rename_i q; subst q; exact ⟨rfl, fun h4 => by simp [fr_ty] at h4⟩
          · exact fr_nt_0 _ (by omega) _
      · split
        · split
          · rename_i q; subst q; exact ⟨rfl, fun h4 => by simp [fr_ty] at h4⟩
          · split
            · rename_i q; subst q; exact ⟨rfl, fun h4 => by simp [fr_ty] at h4⟩
            · exact fr_nt_mono (by omega) (hR.2.2.1 f a i)
        · exact fr_nt_mono (by omega) (hR.2.2.1 f a i)
  · have := hR.2.2.2.1 a
    unfold fi_grid
    split
    · simp; omega
    · split
      · simp; omega
      · split
        · simp; omega
        · exact this
  · rw [e2 q (by omega)]
    exact hR.2.2.2.2.1 q hq
  · rw [g2] at h2a
    by_cases c1 : (a : Int) ≤ h 2 0 0
    · obtain ⟨cell, hc, hC⟩ := hR.2.2.2.2.2 a h1a c1
      refine ⟨cell, by rw [e2 _ (Array.getElem?_eq_some_iff.mp hc).1]; exact hc, ?_⟩
      unfold fr_C at hC ⊢
      simp only [gold _ _ _ h1a c1]
      exact hC
    · have hada := had a (by omega)
      by_cases c2 : (a : Int) = h 2 0 0 + 1
      · refine ⟨_, by rw [hada, show a - (h 2 0 0 + 1).toNat = 0 by omega]; exact e3, ?_⟩
        have b0 : ∀ i, fi_grid h n k 0 a i = 28 := fun i => by rw [gout _ _ _ c2, if_pos rfl]
        have b1 : fi_grid h n k 1 a 0 = n := by rw [gout _ _ _ c2, if_neg (by decide), if_pos rfl]
        have hel : fr_el (28 : Int) = 12 := by decide
        unfold fr_C
        rw [b0, if_pos (by decide), b1, hel]
        refine ⟨by decide, ?_⟩
        congr 1
        funext j
        have hz : fi_grid h n k 12 a j = if (j : Int) < n then h 2 0 0 + 2 + (j : Int) else 0 := by rw [gout _ _ _ c2]; simp
        rw [hz]
        by_cases hj : j < n.toNat
        · rw [if_pos hj, if_pos (by omega)]
          show _ = fr_rv G (h 2 0 0 + 2 + (j : Int))
          unfold fr_rv
          rw [if_neg (by omega), had _ (by omega)]
          have e8 : (h 2 0 0 + 2 + (j : Int)).toNat - (h 2 0 0 + 1).toNat = 1 + j := by omega
          rw [e8, Nat.add_assoc]
        · rw [if_neg hj, if_neg (by omega)]
          rfl
      · refine ⟨_, by rw [hada, show H.size + (a - (h 2 0 0 + 1).toNat) = H.size + 1 + (a - (h 2 0 0 + 2).toNat) by omega]; exact e4 _ (by omega), ?_⟩
        have b0 : ∀ i, fi_grid h n k 0 a i = 4 := fun i => by rw [grow _ _ _ (by omega) (by omega), if_pos rfl]
        have b1 : fi_grid h n k 1 a 0 = k := by rw [grow _ _ _ (by omega) (by omega), if_neg (by decide), if_pos rfl]
        have hel : fr_el (4 : Int) = 4 := by decide
        unfold fr_C
        rw [b0, if_pos (by decide), b1, hel]
        refine ⟨by decide, ?_⟩
        congr 1
        funext j
        rw [grow _ _ _ (by omega) (by omega), if_neg (by decide), if_neg (by decide)]
        rfl
theorem fs_grid (hx : p.tables.exec = Jvm.exec) (hb : c.code = cc) (hS : fr_St G S0 a0) (hW : S0.WarmedH s.vm) (pc9 : fp_ck) (pa : fp_arr) (hown : s.vm.findClass own = some m.cls) (ho : fi_cn[o]? = some own) (hd : decode cc pc = .ok (.multianewarray i 2, 4)) (hf : fi_ck o i = some 28) {n k : Int} (hn : 0 ≤ n ∧ n < 256) (hk : 0 ≤ k ∧ k < 256)
    (hR : fr_R G h H) (hcells : cells + (1 + n.toNat) ≤ R.cells) (hslots : slots + (n.toNat + n.toNat * k.toNat) ≤ R.slots)
    (kk : ∀ H', fr_R G (fi_grid h n k) H' → W p l e R s m args below meth c H' locs (cells + 1 + n.toNat) (slots + n.toNat + n.toNat * k.toNat) Q (F0 m (pc + 4) ls (((4, h 2 0 0 + 1) :: st).map (fr_e G)))) : W p l e R s m args below meth c H locs cells slots Q (F0 m pc ls (((0, k) :: (0, n) :: st).map (fr_e G))) := by
  obtain ⟨own', ho', hlk⟩ := pc9 o i 28 hf
  cases ho.symm.trans ho'
  have hJ := hR.1
  have hni : fr_i32 n := ⟨by omega, by omega⟩
  have hki : fr_i32 k := ⟨by omega, by omega⟩
  have hcn : (fi_I n).toNatClampNeg = n.toNat := fr_I_nat hni hn.1
  have hck : (fi_I k).toNatClampNeg = k.toNat := fr_I_nat hki hk.1
  have hnn : ¬ fi_I n < 0 := by
    rw [Int32.lt_iff_toInt_lt, fr_tI hni]
    simp
    omega
  have hkn : ¬ fi_I k < 0 := by
    rw [Int32.lt_iff_toInt_lt, fr_tI hki]
    simp
    omega
  have hst9 := hS.2.2.2.2.2.1 28 (by decide) (by decide)
  have hst4 := hS.2.2.2.2.1 4 (by decide) (by decide)
  have hov : (Cond.arrayOver (.array .boolean)).before args s = true := by
    have h0 : (Cond.arrayOver (.array .boolean)).before a0 S0 = true := hS.1 _ (pa.2 28 (by decide) (by decide))
    exact fx_aoB hW.alike h0
  intro T hT X
  obtain ⟨vm₁, cA, comp, hW1, hfA, hfC, hO, hI, X1, step⟩ := X.multianewarray2F hx (own := own) (index := i) (ty := .boolean) hown (fw hS hW hlk) hov (fw hS hW (pa.1 4 (by decide) (by decide)))
    (g := F0 m pc ls (((0, k) :: (0, n) :: st).map (fr_e G))) rfl (by rw [hb]; exact hd) (n := fi_I n) (k := fi_I k) (rest := st.map (fr_e G)) rfl hnn hkn (by rw [hcn]; omega) (by rw [hck]; show k.toNat * 1 ≤ _; omega) (by rw [hck]; omega) rfl rfl (by rw [hcn]; exact hcells) (by rw [hcn, hck]; exact hslots)
  rw [hcn, hck] at X1 step
  have hcA : cA = fr_cl G 28 := by
    have := hst9.1
    rw [← hW.alike.findClass] at this
    exact Option.some.inj (hfA.symm.trans this)
  have hcC : comp = fr_cl G 4 := by
    have := hst4.1
    rw [← hW.alike.findClass] at this
    exact Option.some.inj (hfC.symm.trans this)
  subst hcA; subst hcC
  have hTh : (T.setVm vm₁).heap = H := hT
  obtain ⟨f1, f2⟩ := Jvm.Free.Multi.fill_facts (T.setVm vm₁) (fr_cl G 28) (fr_cl G 4) n.toNat k.toNat (defaultValue .boolean) n.toNat
  obtain ⟨hR2, had⟩ := fg_R hS.2.1 hR hn hk (H' := (Jvm.Free.Multi.fill (T.setVm vm₁) (fr_cl G 28) (fr_cl G 4) n.toNat k.toNat (defaultValue .boolean) n.toNat).heap)
    (by rw [f1, hTh]) (fun q hq => by rw [Jvm.Free.Multi.fill_old _ _ _ _ _ _ (by rw [hTh]; exact hq), hTh]) (by rw [hTh] at f2; rw [f2.1, fg_outer])
    (fun j hj => by
      have := Jvm.Free.Multi.fill_inner (T.setVm vm₁) (fr_cl G 28) (fr_cl G 4) n.toNat k.toNat (defaultValue .boolean) n.toNat j hj
      rw [hTh] at this
      rw [this]
      unfold Jvm.Free.Multi.innerC arrV
      rw [fr_rep]
      rfl)
  obtain ⟨t, a1, b1⟩ := kk _ hR2 _ rfl X1
  refine ⟨t, step t ?_, b1⟩
  have e9 : fr_e G (4, h 2 0 0 + 1) = .ref T.heap.size := by
    show fr_rv G (h 2 0 0 + 1) = _
    unfold fr_rv
    rw [if_neg (by omega), had, hT]
  rw [List.map_cons, e9] at a1
  exact a1
end FGr
