/-! constants, statics, casts over the machine -/
def fp_lk : Prop := ∀ o i v, fi_lk o i = some v → ∃ own, fi_cn[o]? = some own ∧ (v.1 = 0 ∧ fr_i32 v.2 ∧ Cond.constant own i (fi_I v.2) ∈ lw_all ∨ v.1 = 1 ∧ fr_i64 v.2 ∧ Cond.constantLong own i (fi_J6 v.2) ∈ lw_all ∨ v.1 = 2 ∧ (0 ≤ v.2 ∧ v.2 < 4294967296) ∧ Cond.constantFloat own i (fi_F v.2) ∈ lw_all ∨ v.1 = 3 ∧ (0 ≤ v.2 ∧ v.2 < 18446744073709551616) ∧ Cond.constantDouble own i (fi_D v.2) ∈ lw_all ∨ v.1 = 4)
section FC
variable {p : Program} {l : Launch} {e : Env} {R : Room} {s S0 : State} {m : MethodId} {args a0 : Array Value} {below : List Frame} {meth : Method} {c : Code} {H : Heap} {locs : List Loc} {cells slots : Nat} {Q : State → Prop}
variable {cc : ByteArray} {pc len : Nat} {ls : Array Slot} {G : fr_G} {st : List FV} {h : fi_H} {own : String} {o i f : Nat} {ins : Instr}
theorem fx_ldcwS {T : State} (X : Stand p l e R s m args below meth c T locs cells slots) (hexec : p.tables.exec = Jvm.exec) {own text : String} {index : Nat} {a : Addr} (hown : s.vm.findClass own = some m.cls)
    (hconst : (Cond.stringRef own index text).before args s = true) (hev : (Term.string own index).eval args s none [] s = some (.ref a)) {g : JFrame} (hg : g.method = m) (hdg : decode c.code g.pc = .ok (.ldc_w index, 3)) :
    ∀ target, Steps p.tables e below (T.setTop { g with pc := g.pc + 3, stack := .ref a :: g.stack }) target → Steps p.tables e below (T.setTop g) target := by
  obtain ⟨k, cf, i, a', hk, hcf, hcp, -, hr, hev'⟩ := Cond.stringRef_spec hown hconst
  cases hev.symm.trans hev'
  obtain ⟨k', hk', he⟩ := X.warmed.alike.2.2 _ _ hk
  have hr' : k'.resolved[index]? = some (some (.string a)) := by
    rcases X.warmed.entry hk hk' index with h | ⟨h, -⟩
    · rw [h]; exact hr
    · rw [hr] at h; cases h
  intro target hrest
  subst hg
  jvm_step X.here [hexec, hdg, ldc_w.wp_string (e := e) (s := T) (f := g) X.here.top hk' (by rw [he]; exact hcf) hcp hr']
  exact hrest
theorem fx_ldcwF {T : State} (X : Stand p l e R s m args below meth c T locs cells slots) (hexec : p.tables.exec = Jvm.exec) {own : String} {index : Nat} {b : UInt32} (hown : s.vm.findClass own = some m.cls)
    (hconst : (Cond.constantFloat own index b).before args s = true) {g : JFrame} (hg : g.method = m) (hdg : decode c.code g.pc = .ok (.ldc_w index, 3)) :
    ∀ target, Steps p.tables e below (T.setTop { g with pc := g.pc + 3, stack := .float b :: g.stack }) target → Steps p.tables e below (T.setTop g) target := by
  obtain ⟨k, cf, hk, hcf, hcp⟩ := Cond.constantFloat_spec hown hconst
  obtain ⟨k', hk', he⟩ := X.warmed.alike.2.2 _ _ hk
  intro target hrest
  subst hg
  jvm_step X.here [hexec, hdg, ldc_w.wp_float (e := e) (s := T) (f := g) X.here.top hk' (by rw [he]; exact hcf) hcp]
  exact hrest
theorem fr_odad {G : fr_G} {x : Int} (h1 : 1 ≤ x) (h2 : x ≤ (fi_J : Int)) : fr_e G (4, x) = .ref (fr_od G x.toNat) := by
  show fr_rv G x = _
  unfold fr_rv fr_ad
  rw [if_neg (by omega), if_pos (by omega)]
/-- ldc, ldc_w, ldc2_w -/
theorem fs_ldc (hx : p.tables.exec = Jvm.exec) (hb : c.code = cc) (hS : fr_St G S0 a0) (hW : S0.WarmedH s.vm) (pk : fp_lk) (hown : s.vm.findClass own = some m.cls) (ho : fi_cn[o]? = some own) {v : FV} (hf : fi_lk o i = some v) (hR : fr_R G h H)
    (hd : (decode cc pc = .ok (.ldc i, 2) ∧ len = 2 ∧ fi_wide v = false) ∨ (decode cc pc = .ok (.ldc_w i, 3) ∧ len = 3 ∧ fi_wide v = false) ∨ (decode cc pc = .ok (.ldc2_w i, 3) ∧ len = 3 ∧ fi_wide v = true))
    (kk : fr_nv (h 2 0 0) v → W p l e R s m args below meth c H locs cells slots Q (F0 m (pc + len) ls ((v :: st).map (fr_e G)))) : W p l e R s m args below meth c H locs cells slots Q (F0 m pc ls (st.map (fr_e G))) := by
  obtain ⟨own', ho', hv⟩ := pk o i v hf
  cases ho.symm.trans ho'
  have hJ := hR.1
  obtain ⟨t, x⟩ := v
  rcases hv with ⟨rfl, hr, hw⟩ | ⟨rfl, hr, hw⟩ | ⟨rfl, hr, hw⟩ | ⟨rfl, hr, hw⟩ | rfl
  · have kk := kk hr
    rcases hd with ⟨hd, rfl, -⟩ | ⟨hd, rfl, -⟩ | ⟨-, -, hw9⟩
    · exact lv_ldc hx hb hown (fw hS hW hw) hd kk
    · exact lv_ldcw hx hb hown (fw hS hW hw) hd kk
    · simp [fi_wide] at hw9
  · have kk := kk hr
    rcases hd with ⟨hd, rfl, hw9⟩ | ⟨hd, rfl, hw9⟩ | ⟨hd, rfl, -⟩
    · simp [fi_wide] at hw9
    · simp [fi_wide] at hw9
    · exact lv_ldc2 hx hb hown (fw hS hW hw) hd kk
  · have kk := kk hr
    rcases hd with ⟨hd, rfl, -⟩ | ⟨hd, rfl, -⟩ | ⟨-, -, hw9⟩
    · exact lv_ldcf hx hb hown (fw hS hW hw) hd kk
    · intro T hT X
      obtain ⟨t, a, b⟩ := kk T hT X
      exact ⟨t, fx_ldcwF X hx hown (fw hS hW hw) (g := F0 m pc ls (st.map (fr_e G))) rfl (by rw [hb]; exact hd) t a, b⟩
    · simp [fi_wide] at hw9
  · have kk := kk hr
    rcases hd with ⟨hd, rfl, hw9⟩ | ⟨hd, rfl, hw9⟩ | ⟨hd, rfl, -⟩
    · simp [fi_wide] at hw9
    · simp [fi_wide] at hw9
    · exact lv_ldc2d hx hb hown (fw hS hW hw) hd kk
  · obtain ⟨h1, h2, own2, tx, ho2, hR0⟩ := hS.2.2.2.2.2.2.2.2.1 o i x hf
    cases ho.symm.trans ho2
    have hRs := vk_R.warm hW hR0
    have kk := kk (show 0 ≤ x ∧ x ≤ h 2 0 0 from ⟨by omega, by omega⟩)
    rw [List.map_cons, fr_odad h1 h2] at kk
    rcases hd with ⟨hd, rfl, -⟩ | ⟨hd, rfl, -⟩ | ⟨-, -, hw9⟩
    · exact va_ldcS hx hb hown hRs hd kk
    · intro T hT X
      obtain ⟨t, a, b⟩ := kk T hT X
      exact ⟨t, fx_ldcwS X hx hown (text := tx) hRs.1 hRs.2 (g := F0 m pc ls (st.map (fr_e G))) rfl (by rw [hb]; exact hd) t a, b⟩
    · simp [fi_wide] at hw9
theorem fs_gets (hx : p.tables.exec = Jvm.exec) (hb : c.code = cc) (hS : fr_St G S0 a0) (hW : S0.WarmedH s.vm) (hown : s.vm.findClass own = some m.cls) (ho : fi_cn[o]? = some own) {v : FV} (hf : fi_sk o i = some v) (hR : fr_R G h H) (hd : decode cc pc = .ok (.getstatic i, 3))
    (kk : fr_nv (h 2 0 0) v → W p l e R s m args below meth c H locs cells slots Q (F0 m (pc + 3) ls ((v :: st).map (fr_e G)))) : W p l e R s m args below meth c H locs cells slots Q (F0 m pc ls (st.map (fr_e G))) := by
  obtain ⟨hn, own2, C, n, d, ref, ho2, hZ, hl, rfl⟩ := hS.2.2.2.2.2.2.2.2.2 o i v hf
  cases ho.symm.trans ho2
  obtain ⟨cf, kf, fi, fd, a, cell, h1, h2, h3, h4, h5, h6, h7, h8⟩ := va_Z.moved hW.alike hZ
  have ha : a < fr_B G := Nat.not_le.mp h8
  refine W.gets hx hb hown (fw hS hW hl) h1 h2 h3 h4 (by rw [hR.2.2.2.2.1 a ha]; exact h5) (fun q => by rw [q] at h6; cases h6) h7 rfl hd (kk (fr_nv_mono hR.1 hn))
theorem fr_obj (hR : fr_R G h H) {r : Int} (hr : fr_nv (h 2 0 0) (4, r)) (hr0 : ¬ r = 0) : ∃ cell, H[fr_ad G r.toNat]? = some cell ∧ cell.vm = .none ∧ cell.cls = fr_cl G (h 0 r.toNat 0).toNat := by
  have hr' : 0 ≤ r ∧ r ≤ h 2 0 0 := hr
  obtain ⟨cell, hc, hC⟩ := hR.2.2.2.2.2 r.toNat (by omega) (by omega)
  refine ⟨cell, hc, ?_⟩
  unfold fr_C at hC
  split at hC
  · rw [hC.2]; exact ⟨rfl, rfl⟩
  · exact ⟨hC.2.1, hC.1⟩
theorem fs_cast (hx : p.tables.exec = Jvm.exec) (hb : c.code = cc) (hS : fr_St G S0 a0) (hW : S0.WarmedH s.vm) (pc9 : fp_ck) (hown : s.vm.findClass own = some m.cls) (ho : fi_cn[o]? = some own) {k : Nat} (hf : fi_ck o i = some k) (hR : fr_R G h H) (hd : decode cc pc = .ok (.checkcast i, 3)) {r : Int} (hr : fr_nv (h 2 0 0) (4, r)) (hk : r = 0 ∨ (fi_sup (h 0 r.toNat 0)).contains k = true)
    (kk : W p l e R s m args below meth c H locs cells slots Q (F0 m (pc + 3) ls (((4, r) :: st).map (fr_e G)))) : W p l e R s m args below meth c H locs cells slots Q (F0 m pc ls (((4, r) :: st).map (fr_e G))) := by
  obtain ⟨own', ho', hl⟩ := pc9 o i k hf
  cases ho.symm.trans ho'
  have he : ∀ q, (F0 m q ls (((4, r) :: st).map (fr_e G))) = F0 m q ls (fr_rv G r :: st.map (fr_e G)) := fun q => rfl
  rw [he] at kk ⊢
  by_cases hr0 : r = 0
  · unfold fr_rv at kk ⊢
    rw [if_pos hr0] at kk ⊢
    exact lv_castN hx hb hd kk
  · obtain ⟨cell, hc, hvm, hcl⟩ := fr_obj hR hr hr0
    obtain ⟨hfn, hasg, -⟩ := hS.2.2.2.2.2.2.1 _ _ (hk.resolve_left hr0)
    unfold fr_rv at kk ⊢
    rw [if_neg hr0] at kk ⊢
    intro T hT X
    obtain ⟨vm', X', st9⟩ := X.checkcastYes hx hown (fw hS hW hl) (by rw [hT]; exact hc) (by rw [hvm]; rfl) (by rw [hW.alike.findClass]; exact hfn) (by rw [hW.alike.assignable, hcl]; exact hasg) (g := F0 m pc ls (.ref (fr_ad G r.toNat) :: st.map (fr_e G))) rfl rfl (by rw [hb]; exact hd)
    obtain ⟨t, a1, b1⟩ := kk (T.setVm vm') hT X'
    exact ⟨t, st9 t a1, b1⟩
theorem fs_inst (hx : p.tables.exec = Jvm.exec) (hb : c.code = cc) (hS : fr_St G S0 a0) (hW : S0.WarmedH s.vm) (pc9 : fp_ck) (hown : s.vm.findClass own = some m.cls) (ho : fi_cn[o]? = some own) {k : Nat} (hf : fi_ck o i = some k) (hR : fr_R G h H) (hd : decode cc pc = .ok (.instanceof i, 3)) {r : Int} (hr : fr_nv (h 2 0 0) (4, r)) {b : Bool} (hk : r = 0 ∧ b = false ∨ ¬ r = 0 ∧ fi_iso (h 0 r.toNat 0) k = some b)
    (kk : fr_nv (h 2 0 0) (0, if b then 1 else 0) → W p l e R s m args below meth c H locs cells slots Q (F0 m (pc + 3) ls (((0, if b then 1 else 0) :: st).map (fr_e G)))) : W p l e R s m args below meth c H locs cells slots Q (F0 m pc ls (((4, r) :: st).map (fr_e G))) := by
  obtain ⟨own', ho', hl⟩ := pc9 o i k hf
  cases ho.symm.trans ho'
  have kk := kk (show fr_i32 _ by cases b <;> exact ⟨by decide, by decide⟩)
  show W p l e R s m args below meth c H locs cells slots Q (F0 m pc ls (fr_rv G r :: st.map (fr_e G)))
  unfold fr_rv
  rcases hk with ⟨hr0, rfl⟩ | ⟨hr0, hk⟩
  · rw [if_pos hr0]
    exact lv_instN hx hb hd kk
  · rw [if_neg hr0]
    obtain ⟨cell, hc, hvm, hcl⟩ := fr_obj hR hr hr0
    cases b with
    | true =>
      have hsup : (fi_sup (h 0 r.toNat 0)).contains k = true := by
        unfold fi_iso at hk
        split at hk
        · exact Option.some.inj hk
        · split at hk
          · rename_i q; rw [q.1, q.2]; decide
          · cases hk
      obtain ⟨hfn, hasg, -⟩ := hS.2.2.2.2.2.2.1 _ _ hsup
      intro T hT X
      obtain ⟨vm', X', st9⟩ := X.instanceofYes hx hown (fw hS hW hl) (by rw [hT]; exact hc) (by rw [hvm]; rfl) (by rw [hW.alike.findClass]; exact hfn) (by rw [hW.alike.assignable, hcl]; exact hasg) (g := F0 m pc ls (.ref (fr_ad G r.toNat) :: st.map (fr_e G))) rfl rfl (by rw [hb]; exact hd)
      obtain ⟨t, a1, b1⟩ := kk (T.setVm vm') hT X'
      exact ⟨t, st9 t a1, b1⟩
    | false =>
      obtain ⟨hfn, hasg, ks0, hks0⟩ := hS.2.2.2.2.2.2.2.1 _ _ hk
      obtain ⟨ks, hks, -⟩ := hW.alike.2.2 _ _ hks0
      intro T hT X
      obtain ⟨vm', X', st9⟩ := va_instofNo X hx hown (fw hS hW hl) (by rw [hT]; exact hc) (by rw [hvm]; rfl) (by rw [hcl]; exact hks) (by rw [hW.alike.findClass]; exact hfn) (by rw [hW.alike.assignable, hcl]; exact hasg) (g := F0 m pc ls (.ref (fr_ad G r.toNat) :: st.map (fr_e G))) rfl rfl (by rw [hb]; exact hd)
      obtain ⟨t, a1, b1⟩ := kk (T.setVm vm') hT X'
      exact ⟨t, st9 t a1, b1⟩
end FC
