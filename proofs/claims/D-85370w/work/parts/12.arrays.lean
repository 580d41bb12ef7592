/-! arrays over the machine -/
theorem fr_et_el {t : Nat} {k : Int} (hk : 4 ≤ k) (h : fi_et t k ≠ 0) (ht : t = 1 ∨ t = 5 ∨ t = 6 ∨ t = 7 ∨ t = 9 ∨ t = 10 ∨ t = 11 ∨ t = 12) : fr_el k = fi_et t k ∧ k < 100 := by
  unfold fi_et at h ⊢
  unfold fr_el
  rcases ht with rfl | rfl | rfl | rfl | rfl | rfl | rfl | rfl
  · simp at h ⊢
    by_cases h8 : k = 8
    · subst h8; simp
    · by_cases h4 : k = 4
      · subst h4; simp
      · simp [h8, h4] at h
  all_goals
    simp at h ⊢
    first
      | (subst h; decide)
      | (have q2 : ¬ k < 12 := by omega
         simp [q2, h]; omega)
theorem fr_et_p {t : Nat} {k : Int} (h1 : t ≠ 1) (h2 : t ≠ 12) (h : fi_et t k ≠ 0) : k = (t : Int) := by
  unfold fi_et at h
  rw [if_neg h1, if_neg h2] at h
  by_cases hk : k = (t : Int)
  · exact hk
  · rw [if_neg hk] at h; exact absurd rfl h
theorem fr_et_1 {k : Int} (h : fi_et 1 k ≠ 0) : k = 8 ∨ k = 4 := by
  unfold fi_et at h
  by_cases h8 : k = 8
  · exact Or.inl h8
  · by_cases h4 : k = 4
    · exact Or.inr h4
    · simp [h8, h4] at h
theorem fr_et_12 {k : Int} (h : fi_et 12 k ≠ 0) : 20 ≤ k ∧ k < 30 := by
  unfold fi_et at h
  by_cases hk : 20 ≤ k ∧ k < 30
  · exact hk
  · simp [hk] at h
section FA
variable {p : Program} {l : Launch} {e : Env} {R : Room} {s S0 : State} {m : MethodId} {args a0 : Array Value} {below : List Frame} {meth : Method} {c : Code} {H : Heap} {locs : List Loc} {cells slots : Nat} {Q : State → Prop}
variable {cc : ByteArray} {pc len : Nat} {ls : Array Slot} {G : fr_G} {st : List FV} {h : fi_H} {own : String} {o i f : Nat} {ins : Instr}
/-- an array by its number -/
theorem fr_arr (hR : fr_R G h H) {r : Int} (hr : fr_nv (h 2 0 0) (4, r)) (hr0 : ¬ r = 0) (hk : h 0 r.toNat 0 < 100) : 4 ≤ h 0 r.toNat 0 ∧ H[fr_ad G r.toNat]? = some (arrV (fr_cl G (h 0 r.toNat 0).toNat) (h 1 r.toNat 0).toNat (fun i => fr_e G (fi_tg (fr_el (h 0 r.toNat 0)), h (fr_el (h 0 r.toNat 0)) r.toNat i))) := by
  have hr' : 0 ≤ r ∧ r ≤ h 2 0 0 := hr
  obtain ⟨cell, hc, hC⟩ := hR.2.2.2.2.2 r.toNat (by omega) (by omega)
  unfold fr_C at hC
  rw [if_pos hk] at hC
  exact ⟨hC.1, by rw [hc, hC.2]⟩
theorem fr_known (hR : fr_R G h H) {r : Int} (hr : fr_nv (h 2 0 0) (4, r)) (hr0 : ¬ r = 0) : 4 ≤ h 0 r.toNat 0 := by
  by_cases hk : h 0 r.toNat 0 < 100
  · exact (fr_arr hR hr hr0 hk).1
  · omega
theorem fr_isA (hS : fr_St G S0 a0) (hW : S0.WarmedH s.vm) {k : Int} {ty : FieldType} (hk : (4 ≤ k ∧ k ≤ 11 ∧ ty = fr_pt k.toNat) ∨ (20 ≤ k ∧ k < 30 ∧ ty = fr_rt k.toNat)) (n : Nat) (z : Nat → Value) : s.isArrayOf (arrV (fr_cl G k.toNat) n z) ty := by
  rcases hk with ⟨h1, h2, rfl⟩ | ⟨h1, h2, rfl⟩
  · exact arrOfT_moved hW.alike (hS.2.2.2.2.1 k.toNat (by omega) (by omega)).2 n z
  · exact arrOfT_moved hW.alike (hS.2.2.2.2.2.1 k.toNat (by omega) (by omega)).2.1 n z
theorem fs_ald (hx : p.tables.exec = Jvm.exec) (hb : c.code = cc) (hS : fr_St G S0 a0) (hW : S0.WarmedH s.vm) (hd : decode cc pc = .ok (ins, 1)) (hR : fr_R G h H) {r j : Int} (hr : fr_nv (h 2 0 0) (4, r)) (hj : fr_i32 j) (hr0 : ¬ r = 0)
    (ha : fi_al ins ≠ 0) (he : fi_et (fi_al ins) (h 0 r.toNat 0) ≠ 0) (hj0 : 0 ≤ j) (hj1 : j < h 1 r.toNat 0)
    (kk : fr_nv (h 2 0 0) (fi_tg (fi_et (fi_al ins) (h 0 r.toNat 0)), h (fi_et (fi_al ins) (h 0 r.toNat 0)) r.toNat j.toNat) → W p l e R s m args below meth c H locs cells slots Q (F0 m (pc + 1) ls (((fi_tg (fi_et (fi_al ins) (h 0 r.toNat 0)), h (fi_et (fi_al ins) (h 0 r.toNat 0)) r.toNat j.toNat) :: st).map (fr_e G)))) :
    W p l e R s m args below meth c H locs cells slots Q (F0 m pc ls (((0, j) :: (4, r) :: st).map (fr_e G))) := by
  have h4 := fr_known hR hr hr0
  have hel := fr_et_el h4 he (by unfold fi_al at ha ⊢; split <;> simp_all)
  obtain ⟨-, hc⟩ := fr_arr hR hr hr0 hel.2
  have hlen : 0 ≤ h 1 r.toNat 0 := (hR.2.2.2.1 r.toNat).1
  have hnv : fr_nv (h 2 0 0) (fi_tg (fi_et (fi_al ins) (h 0 r.toNat 0)), h (fi_et (fi_al ins) (h 0 r.toNat 0)) r.toNat j.toNat) := by
    rw [← hel.1]
    have hb2 : 4 ≤ fr_el (h 0 r.toNat 0) ∧ fr_el (h 0 r.toNat 0) ≤ 12 := by unfold fr_el; split <;> omega
    have := hR.2.2.1 (fr_el (h 0 r.toNat 0)) r.toNat j.toNat
    unfold fr_ty at this
    rw [if_pos (by omega)] at this
    exact this.2 hb2.1 hb2.2
  have kk := kk hnv
  rw [hel.1] at hc
  have hin : ¬ (fi_I j < 0 ∨ (arrV (fr_cl G (h 0 r.toNat 0).toNat) (h 1 r.toNat 0).toNat (fun i => fr_e G (fi_tg (fi_et (fi_al ins) (h 0 r.toNat 0)), h (fi_et (fi_al ins) (h 0 r.toNat 0)) r.toNat i))).slots.size ≤ (fi_I j).toNatClampNeg) := by
    rw [arrV_size]; exact fr_I_in hj hj0 (by omega)
  have hv : (arrV (fr_cl G (h 0 r.toNat 0).toNat) (h 1 r.toNat 0).toNat (fun i => fr_e G (fi_tg (fi_et (fi_al ins) (h 0 r.toNat 0)), h (fi_et (fi_al ins) (h 0 r.toNat 0)) r.toNat i))).slots[(fi_I j).toNatClampNeg]? = some (fr_e G (fi_tg (fi_et (fi_al ins) (h 0 r.toNat 0)), h (fi_et (fi_al ins) (h 0 r.toNat 0)) r.toNat j.toNat)) := by
    rw [fr_I_nat hj hj0, arrV_read _ _ (by omega)]
  have hst : (F0 m pc ls (((0, j) :: (4, r) :: st).map (fr_e G))) = F0 m pc ls (.int (fi_I j) :: .ref (fr_ad G r.toNat) :: st.map (fr_e G)) := by
    show F0 m pc ls (.int (fi_I j) :: fr_rv G r :: st.map (fr_e G)) = _
    unfold fr_rv
    rw [if_neg hr0]
  rw [hst]
  have hun : ∀ (cI : ClassId) (N : Nat) (f : Nat → Value), (arrV cI N f).vm ≠ .unknown := fun _ _ _ q => by cases q
  unfold fi_al at ha
  split at ha
  · have hk : h 0 r.toNat 0 = 10 := fr_et_p (t := 10) (by decide) (by decide) he
    exact W.iald hx hb hc (fr_isA hS hW (Or.inl ⟨by omega, by omega, by rw [hk]; rfl⟩) _ _) (hun _ _ _) hin hv rfl rfl hd kk
  · have hk : h 0 r.toNat 0 = 11 := fr_et_p (t := 11) (by decide) (by decide) he
    exact W.lald hx hb hc (fr_isA hS hW (Or.inl ⟨by omega, by omega, by rw [hk]; rfl⟩) _ _) (hun _ _ _) hin hv rfl rfl hd kk
  · have hk : h 0 r.toNat 0 = 6 := fr_et_p (t := 6) (by decide) (by decide) he
    exact W.fald hx hb hc (fr_isA hS hW (Or.inl ⟨by omega, by omega, by rw [hk]; rfl⟩) _ _) (hun _ _ _) hin hv rfl rfl hd kk
  · have hk : h 0 r.toNat 0 = 7 := fr_et_p (t := 7) (by decide) (by decide) he
    exact W.dald hx hb hc (fr_isA hS hW (Or.inl ⟨by omega, by omega, by rw [hk]; rfl⟩) _ _) (hun _ _ _) hin hv rfl rfl hd kk
  · have hk : 20 ≤ h 0 r.toNat 0 ∧ h 0 r.toNat 0 < 30 := fr_et_12 he
    exact W.aald hx hb hc (fr_isA hS hW (Or.inr ⟨by omega, by omega, rfl⟩) _ _) (by unfold fr_rt; split <;> rfl) (hun _ _ _) hin hv rfl rfl hd kk
  · have hk : h 0 r.toNat 0 = 8 ∨ h 0 r.toNat 0 = 4 := fr_et_1 he
    rcases hk with hk | hk
    · exact W.bald hx hb hc (fr_isA hS hW (Or.inl ⟨by omega, by omega, by rw [hk]; rfl⟩) _ _) (hun _ _ _) hin hv rfl rfl hd kk
    · exact W.zald hx hb hc (fr_isA hS hW (Or.inl ⟨by omega, by omega, by rw [hk]; rfl⟩) _ _) (hun _ _ _) hin hv rfl rfl hd kk
  · have hk : h 0 r.toNat 0 = 5 := fr_et_p (t := 5) (by decide) (by decide) he
    exact W.cald hx hb hc (fr_isA hS hW (Or.inl ⟨by omega, by omega, by rw [hk]; rfl⟩) _ _) (hun _ _ _) hin hv rfl rfl hd kk
  · have hk : h 0 r.toNat 0 = 9 := fr_et_p (t := 9) (by decide) (by decide) he
    exact W.sald hx hb hc (fr_isA hS hW (Or.inl ⟨by omega, by omega, by rw [hk]; rfl⟩) _ _) (hun _ _ _) hin hv rfl rfl hd kk
  · exact absurd rfl ha
theorem fs_ast (hx : p.tables.exec = Jvm.exec) (hb : c.code = cc) (hS : fr_St G S0 a0) (hW : S0.WarmedH s.vm) (hd : decode cc pc = .ok (ins, 1)) (hR : fr_R G h H) {r j : Int} {v : FV} (hv : fr_nv (h 2 0 0) v) (hr : fr_nv (h 2 0 0) (4, r)) (hj : fr_i32 j) (hr0 : ¬ r ≤ (fi_J : Int))
    (ha : fi_as ins ≠ 0) (he : fi_et (fi_as ins) (h 0 r.toNat 0) ≠ 0) (hj0 : 0 ≤ j) (hj1 : j < h 1 r.toNat 0) (ht : v.1 = fi_tg (fi_et (fi_as ins) (h 0 r.toNat 0))) (hg : fi_rg (fi_et (fi_as ins) (h 0 r.toNat 0)) v.2 = true)
    (hq : fi_as ins = 12 → h 0 r.toNat 0 ≠ 28 ∧ (v.2 = 0 ∨ (fi_sup (h 0 v.2.toNat 0)).contains (fi_comp (h 0 r.toNat 0)) = true)) (hloc : ∀ q ∈ locs, fr_B G ≤ q.base)
    (kk : ∀ H' locs', fr_R G (fi_upd h (fi_et (fi_as ins) (h 0 r.toNat 0)) r.toNat j.toNat v.2) H' → (∀ q ∈ locs', fr_B G ≤ q.base) → W p l e R s m args below meth c H' locs' cells slots Q (F0 m (pc + 1) ls (st.map (fr_e G)))) :
    W p l e R s m args below meth c H locs cells slots Q (F0 m pc ls ((v :: (0, j) :: (4, r) :: st).map (fr_e G))) := by
  have hJ0 : (0 : Int) ≤ (fi_J : Int) := by omega
  have hr00 : ¬ r = 0 := by omega
  have hr' : 0 ≤ r ∧ r ≤ h 2 0 0 := hr
  have h4 := fr_known hR hr hr00
  have hel := fr_et_el h4 he (by unfold fi_as at ha ⊢; split <;> simp_all)
  obtain ⟨-, hc⟩ := fr_arr hR hr hr00 hel.2
  have hlen : 0 ≤ h 1 r.toNat 0 := (hR.2.2.2.1 r.toNat).1
  have hb2 : 4 ≤ fr_el (h 0 r.toNat 0) ∧ fr_el (h 0 r.toNat 0) ≤ 12 := by unfold fr_el; split <;> omega
  have hin : ¬ (fi_I j < 0 ∨ (arrV (fr_cl G (h 0 r.toNat 0).toNat) (h 1 r.toNat 0).toNat (fun i => fr_e G (fi_tg (fr_el (h 0 r.toNat 0)), h (fr_el (h 0 r.toNat 0)) r.toNat i))).slots.size ≤ (fi_I j).toNatClampNeg) := by
    rw [arrV_size]; exact fr_I_in hj hj0 (by omega)
  have hnt : fr_nt (h 2 0 0) (fr_el (h 0 r.toNat 0)) v.2 := ⟨by rw [hel.1]; exact hg, fun _ _ => by rw [hel.1, ← ht]; exact hv⟩
  have hJr : fi_J < r.toNat := by omega
  have kk2 : ∀ (w : Value), w = fr_e G v → ∀ H' : Heap, H'[fr_ad G r.toNat]? = some ((arrV (fr_cl G (h 0 r.toNat 0).toNat) (h 1 r.toNat 0).toNat (fun i => fr_e G (fi_tg (fr_el (h 0 r.toNat 0)), h (fr_el (h 0 r.toNat 0)) r.toNat i))).setSlot (fi_I j).toNatClampNeg w) → H'.size = H.size → (∀ q, q ≠ fr_ad G r.toNat → H'[q]? = H[q]?) →
      W p l e R s m args below meth c H' (locs ++ [⟨fr_ad G r.toNat, (fi_I j).toNatClampNeg⟩]) cells slots Q (F0 m (pc + 1) ls (st.map (fr_e G))) := by
    intro w hw H' e1 e2 e3
    refine kk H' _ (by rw [← hel.1]; exact fr_ast hS.2.1 hR hJr (by omega) h4 hel.2 hnt hc (by rw [fr_I_nat hj hj0, hw] at e1; rw [e1, hel.1, ← ht]) e2 e3) (fun z hz => ?_)
    rcases List.mem_append.mp hz with hz | hz
    · exact hloc z hz
    · rw [List.mem_singleton.mp hz]; exact fr_ad_new hJr
  have hfit : ∀ ty : FieldType, fr_tc ty = fr_el (h 0 r.toNat 0) → narrow ty (fr_e G v) = fr_e G v := by
    intro ty hty
    have := (fr_fit (G := G) (top := h 2 0 0) (x := v.2) (ty := ty) (by rw [hty]; exact hnt)).1
    rw [hty, hel.1, ← ht] at this
    exact this
  have hst : (F0 m pc ls ((v :: (0, j) :: (4, r) :: st).map (fr_e G))) = F0 m pc ls (fr_e G v :: .int (fi_I j) :: .ref (fr_ad G r.toNat) :: st.map (fr_e G)) := by
    show F0 m pc ls (fr_e G v :: .int (fi_I j) :: fr_rv G r :: st.map (fr_e G)) = _
    unfold fr_rv
    rw [if_neg hr00]
  rw [hst]
  have hun : ∀ (cI : ClassId) (N : Nat) (f : Nat → Value), (arrV cI N f).vm ≠ .unknown := fun _ _ _ q => by cases q
  obtain ⟨tv, xv⟩ := v
  unfold fi_as at ha
  split at ha
  · have hk : h 0 r.toNat 0 = 10 := fr_et_p (t := 10) (by decide) (by decide) he
    have htv : tv = 0 := by rw [hk] at ht; exact ht
    subst htv
    exact W.iast hx hb hc (fr_isA hS hW (Or.inl ⟨by omega, by omega, by rw [hk]; rfl⟩) _ _) (hun _ _ _) hin rfl rfl hd (kk2 _ rfl)
  · have hk : h 0 r.toNat 0 = 11 := fr_et_p (t := 11) (by decide) (by decide) he
    have htv : tv = 1 := by rw [hk] at ht; exact ht
    subst htv
    exact W.last hx hb hc (fr_isA hS hW (Or.inl ⟨by omega, by omega, by rw [hk]; rfl⟩) _ _) (hun _ _ _) hin rfl rfl hd (kk2 _ rfl)
  · have hk : h 0 r.toNat 0 = 6 := fr_et_p (t := 6) (by decide) (by decide) he
    have htv : tv = 2 := by rw [hk] at ht; exact ht
    subst htv
    exact W.fast hx hb hc (fr_isA hS hW (Or.inl ⟨by omega, by omega, by rw [hk]; rfl⟩) _ _) (hun _ _ _) hin rfl rfl hd (kk2 _ rfl)
  · have hk : h 0 r.toNat 0 = 7 := fr_et_p (t := 7) (by decide) (by decide) he
    have htv : tv = 3 := by rw [hk] at ht; exact ht
    subst htv
    exact W.dast hx hb hc (fr_isA hS hW (Or.inl ⟨by omega, by omega, by rw [hk]; rfl⟩) _ _) (hun _ _ _) hin rfl rfl hd (kk2 _ rfl)
  · have hk : 20 ≤ h 0 r.toNat 0 ∧ h 0 r.toNat 0 < 30 := fr_et_12 he
    have htv : tv = 4 := by
      have : fi_et (fi_as .aastore) (h 0 r.toNat 0) = 12 := by simp [fi_as, fi_et]; omega
      rw [this] at ht; exact ht
    subst htv
    obtain ⟨h28, hq⟩ := hq rfl
    have hrt : fr_rt (h 0 r.toNat 0).toNat = .object (fi_cn.getD (fi_comp ((h 0 r.toNat 0).toNat : Int) - 100) "") := by unfold fr_rt; rw [if_neg (by omega)]
    show W p l e R s m args below meth c H locs cells slots Q (F0 m pc ls (fr_rv G xv :: .int (fi_I j) :: .ref (fr_ad G r.toNat) :: st.map (fr_e G)))
    by_cases hx0 : xv = 0
    · have hnl : fr_rv G xv = .null := by unfold fr_rv; rw [if_pos hx0]
      rw [hnl]
      exact va_WaastN hx hb hc (fr_isA hS hW (Or.inr ⟨by omega, by omega, hrt.symm⟩) _ _) (hun _ _ _) hin rfl rfl hd (kk2 _ hnl.symm)
    · have hnl : fr_rv G xv = .ref (fr_ad G xv.toNat) := by unfold fr_rv; rw [if_neg hx0]
      rw [hnl]
      have hxv : 0 ≤ xv ∧ xv ≤ h 2 0 0 := hv
      obtain ⟨cv, hcv, hCv⟩ := hR.2.2.2.2.2 xv.toNat (by omega) (by omega)
      have hsup := hq.resolve_left hx0
      obtain ⟨hfn, hasg, kv0, hkv0⟩ := hS.2.2.2.2.2.2.1 _ _ hsup
      have hRA := (hS.2.2.2.2.2.1 (h 0 r.toNat 0).toNat (by omega) (by omega)).2.2.moved hW.alike
      rw [hrt] at hRA
      obtain ⟨kA, comp, hA1, hA2, hA3, hA4⟩ := hRA
      have hcvc : cv.cls = fr_cl G (h 0 xv.toNat 0).toNat ∧ ∀ q, cv.vm ≠ .statics q := by
        unfold fr_C at hCv
        split at hCv
        · rw [hCv.2]; exact ⟨rfl, fun q z => by cases z⟩
        · exact ⟨hCv.1, fun q z => by rw [hCv.2.1] at z; cases z⟩
      have hct : fi_comp (h 0 r.toNat 0) = 0 ∨ 100 ≤ fi_comp (h 0 r.toNat 0) := by unfold fi_comp; repeat' split
                                                                                   all_goals decide
      have hfn2 : s.vm.findClass (fi_cn.getD (fi_comp ((h 0 r.toNat 0).toNat : Int) - 100) "") = some (fr_cl G (fi_comp (h 0 r.toNat 0))) := by
        have e1 : ((h 0 r.toNat 0).toNat : Int) = h 0 r.toNat 0 := by omega
        rw [e1, hW.alike.findClass]
        unfold fr_nm at hfn
        rw [if_neg (by omega), if_neg (by omega), if_neg (by omega), if_neg (by omega), if_neg (by omega)] at hfn
        exact hfn
      cases Option.some.inj (hA3.symm.trans hfn2)
      obtain ⟨kc, hkc, -⟩ := Vm.findClass_spec hA3
      obtain ⟨kv, hkv, -⟩ := hW.alike.2.2 _ _ hkv0
      have hin2 : ¬ fi_I j < 0 ∧ (fi_I j).toNatClampNeg < (arrV (fr_cl G (h 0 r.toNat 0).toNat) (h 1 r.toNat 0).toNat (fun i => fr_e G (fi_tg (fr_el (h 0 r.toNat 0)), h (fr_el (h 0 r.toNat 0)) r.toNat i))).slots.size := ⟨fun q => hin (Or.inl q), Nat.not_le.mp (fun q => hin (Or.inr q))⟩
      exact W.aast hx hb hc (fun q z => by cases z) (hun _ _ _) hA1 hA2 rfl hkc hin2 hcv hcvc.2 (by rw [hcvc.1]; exact hkv) (by rw [hcvc.1, hW.alike.assignable]; exact hasg) rfl rfl hd (kk2 _ hnl.symm)
  · have hk : h 0 r.toNat 0 = 8 ∨ h 0 r.toNat 0 = 4 := fr_et_1 he
    rcases hk with hk | hk
    · have htv : tv = 0 := by rw [hk] at ht; exact ht
      subst htv
      exact W.bast hx hb hc (fr_isA hS hW (Or.inl ⟨by omega, by omega, by rw [hk]; rfl⟩) _ _) (hun _ _ _) hin rfl rfl hd (kk2 _ (hfit .byte (by rw [hk]; rfl)))
    · have htv : tv = 0 := by rw [hk] at ht; exact ht
      subst htv
      exact W.zast hx hb hc (fr_isA hS hW (Or.inl ⟨by omega, by omega, by rw [hk]; rfl⟩) _ _) (hun _ _ _) hin rfl rfl hd (kk2 _ (hfit .boolean (by rw [hk]; rfl)))
  · have hk : h 0 r.toNat 0 = 5 := fr_et_p (t := 5) (by decide) (by decide) he
    have htv : tv = 0 := by rw [hk] at ht; exact ht
    subst htv
    exact W.cast hx hb hc (fr_isA hS hW (Or.inl ⟨by omega, by omega, by rw [hk]; rfl⟩) _ _) (hun _ _ _) hin rfl rfl hd (kk2 _ (hfit .char (by rw [hk]; rfl)))
  · have hk : h 0 r.toNat 0 = 9 := fr_et_p (t := 9) (by decide) (by decide) he
    have htv : tv = 0 := by rw [hk] at ht; exact ht
    subst htv
    exact W.sast hx hb hc (fr_isA hS hW (Or.inl ⟨by omega, by omega, by rw [hk]; rfl⟩) _ _) (hun _ _ _) hin rfl rfl hd (kk2 _ (hfit .short (by rw [hk]; rfl)))
  · exact absurd rfl ha
end FA
