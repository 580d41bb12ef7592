section FB
variable {p : Program} {l : Launch} {e : Env} {R : Room} {s : State} {m : MethodId} {args : Array Value} {below : List Frame} {meth : Method} {c : Code} {H : Heap} {locs : List Loc} {cells slots : Nat} {Q : State → Prop}
variable {cc : ByteArray} {pc len : Nat} {ls : Array Slot} {G : fr_G} {top : Int} {st : List FV} {ins : Instr} {nL : Nat}
theorem fs_i0 {b : Int} (hb : fr_i32 b) (h : ¬ b = 0) : ¬ fi_I b = 0 := fun q => h ((fr_I_eq hb (show fr_i32 0 from ⟨by decide, by decide⟩)).mp q)
theorem fs_l0 {b : Int} (hb : fr_i64 b) (h : ¬ b = 0) : ¬ fi_J6 b = 0 := fun q => h (by rw [← fr_tJ hb, q]; rfl)
theorem fs_n64 {x : UInt64} {v : FV} (h : fi_n64 x = some v) : vf_n64 x ∧ v = fi_d x := by
  unfold fi_n64 at h
  split at h
  · rename_i q; cases h; exact ⟨q, rfl⟩
  · cases h
theorem fs_b2 (hx : p.tables.exec = Jvm.exec) (hb : c.code = cc) (hd : decode cc pc = .ok (ins, 1)) {a b v : FV} (ha : fr_nv top a) (hbn : fr_nv top b) (h : fi_b2 ins a b = some v)
    (kk : fr_nv top v → W p l e R s m args below meth c H locs cells slots Q (F0 m (pc + 1) ls ((v :: st).map (fr_e G)))) : W p l e R s m args below meth c H locs cells slots Q (F0 m pc ls ((b :: a :: st).map (fr_e G))) := by
  have ki : ∀ {x : Int32}, v = fi_i x → W p l e R s m args below meth c H locs cells slots Q (F0 m (pc + 1) ls (.int x :: st.map (fr_e G))) := fun {x} q => by
    have := kk (q ▸ fr_nv_i _ _); rwa [List.map_cons, q, fr_e_i] at this
  have kl : ∀ {x : Int64}, v = fi_l x → W p l e R s m args below meth c H locs cells slots Q (F0 m (pc + 1) ls (.long x :: st.map (fr_e G))) := fun {x} q => by
    have := kk (q ▸ fr_nv_l _ _); rwa [List.map_cons, q, fr_e_l] at this
  have kd : ∀ {x : UInt64}, v = fi_d x → W p l e R s m args below meth c H locs cells slots Q (F0 m (pc + 1) ls (.double x :: st.map (fr_e G))) := fun {x} q => by
    have := kk (q ▸ fr_nv_d _ _); rwa [List.map_cons, q, fr_e_d] at this
  unfold fi_b2 at h
  split at h
  · exact lv_iadd hx hb hd (ki (Option.some.inj h).symm)
  · exact lv_isub hx hb hd (ki (Option.some.inj h).symm)
  · exact lv_imul hx hb hd (ki (Option.some.inj h).symm)
  · split at h
    · cases h
    · rename_i q; exact lv_idiv hx hb hd (fs_i0 hbn q) (ki (Option.some.inj h).symm)
  · split at h
    · cases h
    · rename_i q; exact lv_irem hx hb hd (fs_i0 hbn q) (ki (Option.some.inj h).symm)
  · exact lv_iand hx hb hd (ki (Option.some.inj h).symm)
  · exact lv_ior hx hb hd (ki (Option.some.inj h).symm)
  · exact lv_ixor hx hb hd (ki (Option.some.inj h).symm)
  · exact lv_ishl hx hb hd (ki (Option.some.inj h).symm)
  · exact lv_ishr hx hb hd (ki (Option.some.inj h).symm)
  · exact lv_iushr hx hb hd rfl (ki (Option.some.inj h).symm)
  · exact lv_ladd hx hb hd (kl (Option.some.inj h).symm)
  · exact lv_lsub hx hb hd (kl (Option.some.inj h).symm)
  · exact lv_lmul hx hb hd (kl (Option.some.inj h).symm)
  · split at h
    · cases h
    · rename_i q; exact lv_ldiv hx hb hd (fs_l0 hbn q) (kl (Option.some.inj h).symm)
  · split at h
    · cases h
    · rename_i q; exact lv_lrem hx hb hd (fs_l0 hbn q) (kl (Option.some.inj h).symm)
  · exact lv_land hx hb hd (kl (Option.some.inj h).symm)
  · exact lv_lor hx hb hd (kl (Option.some.inj h).symm)
  · exact lv_lxor hx hb hd (kl (Option.some.inj h).symm)
  · exact lv_lshl hx hb hd rfl (kl (Option.some.inj h).symm)
  · exact lv_lshr hx hb hd rfl (kl (Option.some.inj h).symm)
  · exact lv_lushr hx hb hd rfl (kl (Option.some.inj h).symm)
  · exact W.lcmp hx hb hd (ki (Option.some.inj h).symm)
  · obtain ⟨q1, q2⟩ := fs_n64 h; exact lv_dadd hx hb hd q1 (kd q2)
  · obtain ⟨q1, q2⟩ := fs_n64 h; exact lv_dsub hx hb hd q1 (kd q2)
  · obtain ⟨q1, q2⟩ := fs_n64 h; exact lv_dmul hx hb hd q1 (kd q2)
  · obtain ⟨q1, q2⟩ := fs_n64 h; exact lv_ddiv hx hb hd q1 (kd q2)
  · obtain ⟨q1, q2⟩ := fs_n64 h; exact lv_drem hx hb hd q1 (kd q2)
  · exact lv_dcmp hx hb hd (ki (Option.some.inj h).symm)
  · exact lv_fcmp hx hb hd (ki (Option.some.inj h).symm)
  · cases h
theorem fs_u1 (hx : p.tables.exec = Jvm.exec) (hb : c.code = cc) (hd : decode cc pc = .ok (ins, 1)) {b v : FV} (hbn : fr_nv top b) (h : fi_u1 ins b = some v)
    (kk : fr_nv top v → W p l e R s m args below meth c H locs cells slots Q (F0 m (pc + 1) ls ((v :: st).map (fr_e G)))) : W p l e R s m args below meth c H locs cells slots Q (F0 m pc ls ((b :: st).map (fr_e G))) := by
  have ki : ∀ {x : Int32}, v = fi_i x → W p l e R s m args below meth c H locs cells slots Q (F0 m (pc + 1) ls (.int x :: st.map (fr_e G))) := fun {x} q => by
    have := kk (q ▸ fr_nv_i _ _); rwa [List.map_cons, q, fr_e_i] at this
  have kl : ∀ {x : Int64}, v = fi_l x → W p l e R s m args below meth c H locs cells slots Q (F0 m (pc + 1) ls (.long x :: st.map (fr_e G))) := fun {x} q => by
    have := kk (q ▸ fr_nv_l _ _); rwa [List.map_cons, q, fr_e_l] at this
  have kd : ∀ {x : UInt64}, v = fi_d x → W p l e R s m args below meth c H locs cells slots Q (F0 m (pc + 1) ls (.double x :: st.map (fr_e G))) := fun {x} q => by
    have := kk (q ▸ fr_nv_d _ _); rwa [List.map_cons, q, fr_e_d] at this
  unfold fi_u1 at h
  split at h
  · exact lv_ineg hx hb hd (ki (Option.some.inj h).symm)
  · exact lv_lneg hx hb hd (kl (Option.some.inj h).symm)
  · exact lv_dneg hx hb hd (kd (Option.some.inj h).symm)
  · exact lv_i2l hx hb hd rfl (kl (Option.some.inj h).symm)
  · exact lv_l2i hx hb hd rfl (ki (Option.some.inj h).symm)
  · exact lv_i2b hx hb hd rfl (ki (Option.some.inj h).symm)
  · exact lv_i2s hx hb hd rfl (ki (Option.some.inj h).symm)
  · exact lv_i2c hx hb hd rfl (ki (Option.some.inj h).symm)
  · exact lv_i2d hx hb hd (kd (Option.some.inj h).symm)
  · exact lv_l2d hx hb hd (kd (Option.some.inj h).symm)
  · exact lv_d2l hx hb hd (kl (Option.some.inj h).symm)
  · obtain ⟨q1, q2⟩ := fs_n64 h; exact lv_f2d hx hb hd q1 (kd q2)
  · cases h
theorem fs_tgt {off : Int} {t : Nat} (h : fi_tgt pc off = some t) : (pc : Int) + off = (t : Int) := by
  unfold fi_tgt at h
  split at h
  · cases h; omega
  · cases h
theorem fs_cb (cd : ClassFile.Cond) (x y : Int) : fi_cb cd x y = true ↔ match cd with | .eq => x = y | .ne => ¬ x = y | .lt => x < y | .ge => y ≤ x | .gt => y < x | .le => x ≤ y := by
  cases cd <;> simp [fi_cb]
theorem fs_pick {α : Prop} {b : Bool} {t f : Nat} {P : Nat → Prop} (kk : P (if b then t else f)) (hb : b = true ↔ α) : (α → P t) ∧ (¬ α → P f) := by
  constructor
  · intro h; rw [if_pos (hb.mpr h)] at kk; exact kk
  · intro h; rw [if_neg (fun q => h (hb.mp q))] at kk; exact kk
theorem fs_icmp (hx : p.tables.exec = Jvm.exec) (hb : c.code = cc) {cd : ClassFile.Cond} {off : Int} (hd : decode cc pc = .ok (.if_icmp cd off, 3)) {x y : Int} (hxn : fr_i32 x) (hyn : fr_i32 y) {t : Nat} (ht : fi_tgt pc off = some t)
    (kk : W p l e R s m args below meth c H locs cells slots Q (F0 m (if fi_cb cd x y then t else pc + 3) ls (st.map (fr_e G)))) : W p l e R s m args below meth c H locs cells slots Q (F0 m pc ls (((0, y) :: (0, x) :: st).map (fr_e G))) := by
  obtain ⟨k1, k2⟩ := fs_pick (P := fun q => W p l e R s m args below meth c H locs cells slots Q (F0 m q ls (st.map (fr_e G)))) kk (fs_cb cd x y)
  have ht := fs_tgt ht
  cases cd with
  | eq => exact lv_icmp_eq hx hb hd ht (fun q => k1 ((fr_I_eq hxn hyn).mp q)) (fun q => k2 (fun q2 => q ((fr_I_eq hxn hyn).mpr q2)))
  | ne => exact lv_icmp_ne hx hb hd ht (fun q => k1 (fun q2 => q ((fr_I_eq hxn hyn).mpr q2))) (fun q => k2 (fun q2 => q2 ((fr_I_eq hxn hyn).mp q)))
  | lt => exact lv_icmp_lt hx hb hd ht (fun q => k1 ((fr_I_lt hxn hyn).mp q)) (fun q => k2 (fun q2 => q ((fr_I_lt hxn hyn).mpr q2)))
  | ge => exact lv_icmp_ge hx hb hd ht (fun q => k1 ((fr_I_le hyn hxn).mp q)) (fun q => k2 (fun q2 => q ((fr_I_le hyn hxn).mpr q2)))
  | gt => exact lv_icmp_gt hx hb hd ht (fun q => k1 ((fr_I_lt hyn hxn).mp q)) (fun q => k2 (fun q2 => q ((fr_I_lt hyn hxn).mpr q2)))
  | le => exact lv_icmp_le hx hb hd ht (fun q => k1 ((fr_I_le hxn hyn).mp q)) (fun q => k2 (fun q2 => q ((fr_I_le hxn hyn).mpr q2)))
theorem fs_if (hx : p.tables.exec = Jvm.exec) (hb : c.code = cc) {cd : ClassFile.Cond} {off : Int} (hd : decode cc pc = .ok (.ifCond cd off, 3)) {x : Int} (hxn : fr_i32 x) {t : Nat} (ht : fi_tgt pc off = some t)
    (kk : W p l e R s m args below meth c H locs cells slots Q (F0 m (if fi_cb cd x 0 then t else pc + 3) ls (st.map (fr_e G)))) : W p l e R s m args below meth c H locs cells slots Q (F0 m pc ls (((0, x) :: st).map (fr_e G))) := by
  have hyn : fr_i32 0 := ⟨by decide, by decide⟩
  obtain ⟨k1, k2⟩ := fs_pick (P := fun q => W p l e R s m args below meth c H locs cells slots Q (F0 m q ls (st.map (fr_e G)))) kk (fs_cb cd x 0)
  have ht := fs_tgt ht
  cases cd with
  | eq => exact lv_if_eq hx hb hd ht (fun q => k1 ((fr_I_eq hxn hyn).mp q)) (fun q => k2 (fun q2 => q ((fr_I_eq hxn hyn).mpr q2)))
  | ne => exact lv_if_ne hx hb hd ht (fun q => k1 (fun q2 => q ((fr_I_eq hxn hyn).mpr q2))) (fun q => k2 (fun q2 => q2 ((fr_I_eq hxn hyn).mp q)))
  | lt => exact lv_if_lt hx hb hd ht (fun q => k1 ((fr_I_lt hxn hyn).mp q)) (fun q => k2 (fun q2 => q ((fr_I_lt hxn hyn).mpr q2)))
  | ge => exact lv_if_ge hx hb hd ht (fun q => k1 ((fr_I_le hyn hxn).mp q)) (fun q => k2 (fun q2 => q ((fr_I_le hyn hxn).mpr q2)))
  | gt => exact lv_if_gt hx hb hd ht (fun q => k1 ((fr_I_lt hyn hxn).mp q)) (fun q => k2 (fun q2 => q ((fr_I_lt hyn hxn).mpr q2)))
  | le => exact lv_if_le hx hb hd ht (fun q => k1 ((fr_I_le hxn hyn).mp q)) (fun q => k2 (fun q2 => q ((fr_I_le hxn hyn).mpr q2)))
theorem fs_rf (G : fr_G) (x : Int) : ∃ r : Option Nat, fr_rv G x = va_rf r := by
  rcases fs_ref G x with ⟨q, -⟩ | ⟨a, q⟩
  · exact ⟨none, q⟩
  · exact ⟨some a, q⟩
theorem fs_rfi {r r' : Option Nat} : va_rf r = va_rf r' ↔ r = r' := by
  cases r <;> cases r' <;> simp [va_rf]
theorem fs_acmp (hx : p.tables.exec = Jvm.exec) (hb : c.code = cc) (hA : fr_A G) {cd : ACond} {off : Int} (hd : decode cc pc = .ok (.if_acmp cd off, 3)) {x y : Int} (hxn : 0 ≤ x) (hyn : 0 ≤ y) {t : Nat} (ht : fi_tgt pc off = some t)
    (kk : W p l e R s m args below meth c H locs cells slots Q (F0 m (if (match cd with | .eq => decide (x = y) | .ne => decide (x ≠ y)) then t else pc + 3) ls (st.map (fr_e G)))) : W p l e R s m args below meth c H locs cells slots Q (F0 m pc ls (((4, y) :: (4, x) :: st).map (fr_e G))) := by
  have ht := fs_tgt ht
  obtain ⟨rx, ex⟩ := fs_rf G x
  obtain ⟨ry, ey⟩ := fs_rf G y
  have hiff : rx = ry ↔ x = y := by rw [← fs_rfi, ← ex, ← ey, fr_rv_eq hA hxn hyn]
  show W p l e R s m args below meth c H locs cells slots Q (F0 m pc ls (fr_rv G y :: fr_rv G x :: st.map (fr_e G)))
  rw [ex, ey]
  cases cd with
  | eq =>
    obtain ⟨k1, k2⟩ := fs_pick (P := fun q => W p l e R s m args below meth c H locs cells slots Q (F0 m q ls (st.map (fr_e G)))) kk (decide_eq_true_iff)
    exact lv_acmp_eq hx hb hd ht (fun q => k1 (hiff.mp q)) (fun q => k2 (fun q2 => q (hiff.mpr q2)))
  | ne =>
    obtain ⟨k1, k2⟩ := fs_pick (P := fun q => W p l e R s m args below meth c H locs cells slots Q (F0 m q ls (st.map (fr_e G)))) kk (decide_eq_true_iff)
    exact lv_acmp_ne hx hb hd ht (fun q => k1 (fun q2 => q (hiff.mpr q2))) (fun q => k2 (fun q2 => q2 (hiff.mp q)))
theorem fs_null (hx : p.tables.exec = Jvm.exec) (hb : c.code = cc) {off : Int} (hd : decode cc pc = .ok (.ifnull off, 3)) {x : Int} {t : Nat} (ht : fi_tgt pc off = some t)
    (kk : W p l e R s m args below meth c H locs cells slots Q (F0 m (if x = 0 then t else pc + 3) ls (st.map (fr_e G)))) : W p l e R s m args below meth c H locs cells slots Q (F0 m pc ls (((4, x) :: st).map (fr_e G))) := by
  have ht := fs_tgt ht
  show W p l e R s m args below meth c H locs cells slots Q (F0 m pc ls (fr_rv G x :: st.map (fr_e G)))
  unfold fr_rv
  by_cases h0 : x = 0
  · rw [if_pos h0] at kk ⊢; exact lv_ifnullN hx hb hd ht kk
  · rw [if_neg h0] at kk ⊢; exact lv_ifnull hx hb hd kk
theorem fs_nonnull (hx : p.tables.exec = Jvm.exec) (hb : c.code = cc) {off : Int} (hd : decode cc pc = .ok (.ifnonnull off, 3)) {x : Int} {t : Nat} (ht : fi_tgt pc off = some t)
    (kk : W p l e R s m args below meth c H locs cells slots Q (F0 m (if x = 0 then pc + 3 else t) ls (st.map (fr_e G)))) : W p l e R s m args below meth c H locs cells slots Q (F0 m pc ls (((4, x) :: st).map (fr_e G))) := by
  have ht := fs_tgt ht
  show W p l e R s m args below meth c H locs cells slots Q (F0 m pc ls (fr_rv G x :: st.map (fr_e G)))
  unfold fr_rv
  by_cases h0 : x = 0
  · rw [if_pos h0] at kk ⊢; exact lv_ifnonnullN hx hb hd kk
  · rw [if_neg h0] at kk ⊢; exact lv_ifnonnull hx hb hd ht kk
theorem fs_table (hx : p.tables.exec = Jvm.exec) (hb : c.code = cc) {dflt lo hi : Int} {offs : Array Int} (hd : decode cc pc = .ok (.tableswitch dflt lo hi offs, len)) {x : Int} (hxn : fr_i32 x) {t : Nat}
    (ht : (x < lo ∨ hi < x) ∧ fi_tgt pc dflt = some t ∨ ¬ (x < lo ∨ hi < x) ∧ ∃ off, offs[(x - lo).toNat]? = some off ∧ fi_tgt pc off = some t)
    (kk : W p l e R s m args below meth c H locs cells slots Q (F0 m t ls (st.map (fr_e G)))) : W p l e R s m args below meth c H locs cells slots Q (F0 m pc ls (((0, x) :: st).map (fr_e G))) := by
  rcases ht with ⟨h1, h2⟩ | ⟨h1, off, h2, h3⟩
  · exact lv_tableOut hx hb hd (by rw [show (fi_I ((0, x) : FV).2).toInt = x from fr_tI hxn]; exact h1) (fs_tgt h2) kk
  · exact lv_tableIn (off := off) hx hb hd (by rw [show (fi_I ((0, x) : FV).2).toInt = x from fr_tI hxn]; omega) (by rw [show (fi_I ((0, x) : FV).2).toInt = x from fr_tI hxn]; omega) (by rw [show (fi_I ((0, x) : FV).2).toInt = x from fr_tI hxn]; exact h2) (fs_tgt h3) kk
theorem fs_lookup (hx : p.tables.exec = Jvm.exec) (hb : c.code = cc) {dflt : Int} {ps : Array (Int × Int)} (hd : decode cc pc = .ok (.lookupswitch dflt ps, len)) (hp : (ps.toList.zip (ps.toList.drop 1)).all (fun (a, next) => a.1 < next.1) = true) {x : Int} (hxn : fr_i32 x) {t : Nat}
    (ht : fi_tgt pc (Op.lookupswitch.offset ps.toList dflt x) = some t)
    (kk : W p l e R s m args below meth c H locs cells slots Q (F0 m t ls (st.map (fr_e G)))) : W p l e R s m args below meth c H locs cells slots Q (F0 m pc ls (((0, x) :: st).map (fr_e G))) :=
  lv_lookup hx hb hd hp (by rw [show (fi_I ((0, x) : FV).2).toInt = x from fr_tI hxn]) (fs_tgt ht) kk
end FB
