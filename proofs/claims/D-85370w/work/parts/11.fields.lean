/-! fields over the machine -/
def fr_tc : FieldType → Nat
  | .boolean => 4 | .char => 5 | .float => 6 | .double => 7 | .byte => 8 | .short => 9 | .int => 10 | .long => 11 | .object _ => 12 | .array _ => 12
def fr_FF (U : State) (O f d : String) (i : Nat) : Prop := ∃ cf kf fi fd, U.fieldFound? O f d = some (cf, kf, fi, fd) ∧ fd.slot = i ∧ fd.isStatic = false
/-- the object classes by their numbers -/
def fr_ob (k : Nat) : Bool := decide (100 ≤ k) && !(fi_cf.getD (k - 100) []).isEmpty
def fr_pt (t : Nat) : FieldType := if t = 4 then .boolean else if t = 5 then .char else if t = 6 then .float else if t = 7 then .double else if t = 8 then .byte else if t = 9 then .short else if t = 10 then .int else .long
/-- the element type of an array of references by its number -/
def fr_rt (k : Nat) : FieldType := if k = 28 then .array .boolean else .object (fi_cn.getD (fi_comp k - 100) "")
/-- a class's name by its number -/
def fr_nm (k : Nat) : String := if k = 8 then "[B" else if k = 5 then "[C" else if k = 9 then "[S" else if k = 10 then "[I" else if k = 28 then "[[Z" else fi_cn.getD (k - 100) ""
/-- what holds at the law's start and is never undone -/
def fr_St (G : fr_G) (S0 : State) (a0 : Array Value) : Prop :=
  (∀ w ∈ lw_tbl, w.before a0 S0 = true) ∧ fr_A G ∧
  (∀ f q, 100 ≤ f → fi_fn[f - 100]? = some q → fr_FF S0 q.1 q.2.1 q.2.2.1 (fr_sl G f)) ∧
  (∀ k, fr_ob k = true → ClassAt S0 (fi_cn.getD (k - 100) "") (fr_cl G k)) ∧
  (∀ t, 4 ≤ t → t ≤ 11 → S0.vm.findClass ("[" ++ (fr_pt t).toString) = some (fr_cl G t) ∧ ArrOfT S0 (fr_cl G t) (fr_pt t)) ∧
  (∀ k, 20 ≤ k → k < 30 → S0.vm.findClass ("[" ++ (fr_rt k).toString) = some (fr_cl G k) ∧ ArrOfT S0 (fr_cl G k) (fr_rt k) ∧ va_RA S0 (fr_cl G k) (fr_rt k)) ∧
  (∀ (k : Int) (t : Nat), (fi_sup k).contains t = true → S0.vm.findClass (fr_nm t) = some (fr_cl G t) ∧ S0.vm.assignable (fr_cl G k.toNat) (fr_cl G t) = true ∧ ∃ kk : Class, S0.vm.classes[fr_cl G k.toNat]? = some kk) ∧
  (∀ (k : Int) (t : Nat), fi_iso k t = some false → S0.vm.findClass (fr_nm t) = some (fr_cl G t) ∧ S0.vm.assignable (fr_cl G k.toNat) (fr_cl G t) = false ∧ ∃ kk : Class, S0.vm.classes[fr_cl G k.toNat]? = some kk) ∧
  (∀ o i x, fi_lk o i = some (4, x) → 1 ≤ x ∧ x ≤ (fi_J : Int) ∧ ∃ own tx, fi_cn[o]? = some own ∧ vk_R own i tx (fr_od G x.toNat) S0) ∧
  (∀ o i v, fi_sk o i = some v → fr_nv (fi_J : Int) v ∧ ∃ own C n d ref, fi_cn[o]? = some own ∧ va_Z C n d (fr_e G v) (fun q => fr_B G ≤ q) S0 (fr_H0 G) ∧ Cond.fieldLink own i ref n d ∈ lw_all ∧ ref = C)
/-- the tables of the interpreter are what the words say: fields -/
def fp_fk : Prop := ∀ o i f, fi_fk o i = some f → 100 ≤ f ∧ ∃ own q ref, fi_cn[o]? = some own ∧ fi_fn[f - 100]? = some q ∧
  (Cond.fieldLink own i ref q.2.1 q.2.2.1 ∈ lw_all ∨ ∃ host, Cond.fieldLinkNest own i ref q.2.1 q.2.2.1 host ∈ lw_tbl ∧ q.1 ≠ own) ∧ (ref = q.1 ∨ Cond.sameField ref q.1 q.2.1 q.2.2.1 ∈ lw_all)
def fp_ty : Prop := ∀ f q, 100 ≤ f → fi_fn[f - 100]? = some q → ∃ ty, parseFieldDescriptor q.2.2.1 = some ty ∧ fr_tc ty = fi_ft f
def fp_lay : Prop := ∀ (c f : Nat), c < 34 → fi_in (100 + (c : Int)) f = true → 100 ≤ f ∧ ∃ C q, fi_cn[c]? = some C ∧ fi_fn[f - 100]? = some q ∧ (if q.2.2.2 = true then Cond.laysFinal C q.1 q.2.1 q.2.2.1 else Cond.lays C q.1 q.2.1 q.2.2.1) ∈ lw_all
def fp_nm : Prop := ∀ (c f f' : Nat) q q', c < 34 → fi_in (100 + (c : Int)) f = true → fi_in (100 + (c : Int)) f' = true → f ≠ f' → fi_fn[f - 100]? = some q → fi_fn[f' - 100]? = some q' → q.2.1 ≠ q'.2.1 ∨ (q.1 ≠ q'.1 ∧ q.2.2.2 = true ∧ q'.2.2.2 = true)
theorem fr_all {w : Cond} (h : w ∈ lw_all) : goodWord w = true := (List.mem_filter.mp h).2
theorem fw {G : fr_G} {S0 s : State} {a0 args : Array Value} (hS : fr_St G S0 a0) (hW : S0.WarmedH s.vm) {w : Cond} (h : w ∈ lw_all) : w.before args s = true :=
  word_at hW (good_of_word (fr_all h)) (hS.1 w (lw_all_tbl h))
theorem fr_ff_moved {u U : State} (hvm : u.vm.Alike U.vm) {O f d : String} {i : Nat} (h : fr_FF u O f d i) : fr_FF U O f d i := by
  obtain ⟨cf, kf, fi, fd, h1, h2, h3⟩ := h
  obtain ⟨kf', hi', -⟩ := State.fieldFound?_setVm (s := u) hvm h1
  exact ⟨cf, kf', fi, fd, by simpa only [State.fieldFound?, State.vm_setVm] using hi', h2, h3⟩
theorem fr_byte {x : Int} (h : -128 ≤ x ∧ x < 128) : (fi_I x).toInt8.toInt32 = fi_I x := by
  have hx : fr_i32 x := ⟨by omega, by omega⟩
  apply Int32.toInt_inj.mp
  rw [Int8.toInt_toInt32, Int32.toInt_toInt8, fr_tI hx]
  exact Int.bmod_eq_of_le (by omega) (by omega)
theorem fr_short {x : Int} (h : -32768 ≤ x ∧ x < 32768) : (fi_I x).toInt16.toInt32 = fi_I x := by
  have hx : fr_i32 x := ⟨by omega, by omega⟩
  apply Int32.toInt_inj.mp
  rw [Int16.toInt_toInt32, Int32.toInt_toInt16, fr_tI hx]
  exact Int.bmod_eq_of_le (by omega) (by omega)
theorem fr_char {x : Int} (h : 0 ≤ x ∧ x < 65536) : fi_I x = nI x.toNat ∧ x.toNat < 65536 := by
  obtain ⟨n, rfl⟩ := Int.eq_ofNat_of_zero_le h.1
  refine ⟨?_, by omega⟩
  show Int32.ofInt (n : Int) = Int32.ofNat n
  first | exact Int32.ofInt_eq_ofNat | exact Int32.ofInt_natCast n | rfl
theorem fr_fit {G : fr_G} {top : Int} {x : Int} {ty : FieldType} (hn : fr_nt top (fr_tc ty) x) : narrow ty (fr_e G (fi_tg (fr_tc ty), x)) = fr_e G (fi_tg (fr_tc ty), x) ∧ fits ty (fr_e G (fi_tg (fr_tc ty), x)) = true := by
  cases ty with
  | boolean =>
    have h := hn.1
    simp [fr_tc, fi_rg] at h
    rcases h with rfl | rfl
    · exact ⟨(by decide : narrow .boolean (.int (Int32.ofInt 0)) = .int (Int32.ofInt 0)), (by decide : fits .boolean (.int (Int32.ofInt 0)) = true)⟩
    · exact ⟨(by decide : narrow .boolean (.int (Int32.ofInt 1)) = .int (Int32.ofInt 1)), (by decide : fits .boolean (.int (Int32.ofInt 1)) = true)⟩
  | char =>
    have h := hn.1
    simp [fr_tc, fi_rg] at h
    obtain ⟨h1, h2⟩ := fr_char h
    show narrow .char (.int (fi_I x)) = .int (fi_I x) ∧ fits .char (.int (fi_I x)) = true
    rw [h1]
    exact pk_charN h2
  | float => exact ⟨rfl, rfl⟩
  | double => exact ⟨rfl, rfl⟩
  | byte =>
    have h := hn.1
    simp [fr_tc, fi_rg] at h
    show narrow .byte (.int (fi_I x)) = .int (fi_I x) ∧ fits .byte (.int (fi_I x)) = true
    rw [← fr_byte h]
    exact ⟨pk_nb _, pk_fb _⟩
  | short =>
    have h := hn.1
    simp [fr_tc, fi_rg] at h
    show narrow .short (.int (fi_I x)) = .int (fi_I x) ∧ fits .short (.int (fi_I x)) = true
    rw [← fr_short h]
    exact ⟨pk_ns _, pk_fs _⟩
  | int => exact ⟨rfl, rfl⟩
  | long => exact ⟨rfl, rfl⟩
  | object n =>
    show narrow (.object n) (fr_rv G x) = fr_rv G x ∧ fits (.object n) (fr_rv G x) = true
    unfold fr_rv
    split <;> exact ⟨rfl, rfl⟩
  | array t =>
    show narrow (.array t) (fr_rv G x) = fr_rv G x ∧ fits (.array t) (fr_rv G x) = true
    unfold fr_rv
    split <;> exact ⟨rfl, rfl⟩
theorem fr_in {k : Int} {f : Nat} (h : fi_in k f = true) : 100 ≤ k := by
  unfold fi_in at h
  simp only [Bool.and_eq_true, decide_eq_true_eq] at h
  exact h.1
theorem fr_tcr (ty : FieldType) : 4 ≤ fr_tc ty ∧ fr_tc ty ≤ 12 := by cases ty <;> simp [fr_tc]
theorem fr_ftv (pt : fp_ty) {f : Nat} {q : String × String × String × Bool} (hf : 100 ≤ f) (hq : fi_fn[f - 100]? = some q) {top x : Int} (hn : fr_nt top (fr_ty f) x) : fr_nv top (fi_tg (fi_ft f), x) ∧ fr_nt top (fi_ft f) x := by
  obtain ⟨ty, -, ht⟩ := pt f q hf hq
  have he : fr_ty f = fi_ft f := by unfold fr_ty; rw [if_neg (by omega)]
  rw [he] at hn
  have := fr_tcr ty
  exact ⟨hn.2 (by omega) (by omega), hn⟩
section FF
variable {p : Program} {l : Launch} {e : Env} {R : Room} {s S0 : State} {m : MethodId} {args a0 : Array Value} {below : List Frame} {meth : Method} {c : Code} {H : Heap} {locs : List Loc} {cells slots : Nat} {Q : State → Prop}
variable {cc : ByteArray} {pc len : Nat} {ls : Array Slot} {G : fr_G} {st : List FV} {h : fi_H} {own : String} {o i f : Nat}
theorem fr_same (hS : fr_St G S0 a0) (hW : S0.WarmedH s.vm) {q : String × String × String × Bool} {ref : String} (hs : ref = q.1 ∨ Cond.sameField ref q.1 q.2.1 q.2.2.1 ∈ lw_all) {x : ClassId × Class × Nat × Field} (hi : s.fieldFound? q.1 q.2.1 q.2.2.1 = some x) : s.fieldFound? ref q.2.1 q.2.2.1 = some x := by
  rcases hs with rfl | hs
  · exact hi
  · exact u_same (fw (args := #[]) hS hW hs) x hi
theorem fs_get (hx : p.tables.exec = Jvm.exec) (hb : c.code = cc) (hS : fr_St G S0 a0) (hW : S0.WarmedH s.vm) (pf : fp_fk) (pt : fp_ty) (hown : s.vm.findClass own = some m.cls) (ho : fi_cn[o]? = some own) (hd : decode cc pc = .ok (.getfield i, 3)) (hf : fi_fk o i = some f)
    (hR : fr_R G h H) {r : Int} (hr : fr_nv (h 2 0 0) (4, r)) (hr0 : ¬ r = 0) (hin : fi_in (h 0 r.toNat 0) f = true)
    (kk : fr_nv (h 2 0 0) (fi_tg (fi_ft f), h f r.toNat 0) → W p l e R s m args below meth c H locs cells slots Q (F0 m (pc + 3) ls (((fi_tg (fi_ft f), h f r.toNat 0) :: st).map (fr_e G)))) : W p l e R s m args below meth c H locs cells slots Q (F0 m pc ls (((4, r) :: st).map (fr_e G))) := by
  obtain ⟨hf1, own', q, ref, ho', hq, hlink, hsame⟩ := pf o i f hf
  cases ho.symm.trans ho'
  have hr' : 0 ≤ r ∧ r ≤ h 2 0 0 := hr
  obtain ⟨cell, hc, hC⟩ := hR.2.2.2.2.2 r.toNat (by omega) (by omega)
  have hk : ¬ h 0 r.toNat 0 < 100 := by
    have := fr_in hin
    omega
  unfold fr_C at hC
  rw [if_neg hk] at hC
  obtain ⟨cf, kf, fi, fd, h1, h2, h3⟩ := fr_ff_moved hW.alike (hS.2.2.1 f q hf1 hq)
  have h1' := fr_same hS hW hsame h1
  have hslot : cell.slots[fd.slot]? = some (fr_e G (fi_tg (fi_ft f), h f r.toNat 0)) := by rw [h2]; exact hC.2.2 f hin
  have hn := hR.2.2.1 f r.toNat 0
  have kk2 := kk (fr_ftv pt hf1 hq hn).1
  show W p l e R s m args below meth c H locs cells slots Q (F0 m pc ls (fr_rv G r :: st.map (fr_e G)))
  unfold fr_rv
  rw [if_neg hr0]
  rcases hlink with hl | ⟨host, hl, -⟩
  · exact W.getf hx hb hown (fw hS hW hl) h1' h3 hc (by rw [hC.2.1]; exact fun q => by cases q) hslot rfl rfl hd kk2
  · exact va_Wgetf hx hb hown (va_Nw.use rfl (va_Nw.warmF hW (va_Nw.of rfl (hS.1 _ hl)))) h1' h3 hc (by rw [hC.2.1]; exact fun q => by cases q) hslot rfl rfl hd kk2
theorem fr_ffc {s : State} {cls name desc : String} {c i : Nat} {k : Class} {f : Field} (h : s.fieldFound? cls name desc = some (c, k, i, f)) : s.vm.classes[c]? = some k := by
  simp only [State.fieldFound?, Option.bind_eq_bind, Option.bind_eq_some_iff, Option.pure_def, Option.some.injEq, Prod.mk.injEq] at h
  obtain ⟨_, _, _, _, ⟨c', i'⟩, hl, k', hk, f', hf, rfl, rfl, rfl, rfl⟩ := h
  exact hk
/-- fields of one name, laid by two classes of a chain -/
theorem fr_apart2 {C O f d O' f' d' : String} {a : Array Value} (h : (Cond.laysFinal C O f d).before a s = true) (h' : (Cond.laysFinal C O' f' d').before a s = true)
    {cf kf fi fd cf' kf' fi' fd'} (hi : s.fieldFound? O f d = some (cf, kf, fi, fd)) (hi' : s.fieldFound? O' f' d' = some (cf', kf', fi', fd')) (hne : O ≠ O') : fd.slot ≠ fd'.slot := by
  obtain ⟨c1, k1, c2, k2, i1, f1, a1, a2, a3, -, -, -, a4, -, d1, a5, a6, -⟩ := Cond.laysFinal_spec h
  obtain ⟨c1', k1', c2', k2', i1', f1', b1, b2, b3, -, -, -, b4, -, d1', b5, b6, -⟩ := Cond.laysFinal_spec h'
  cases hi.symm.trans a3
  cases hi'.symm.trans b3
  cases a1.symm.trans b1
  intro he
  rw [he] at a5
  cases a5.symm.trans b5
  obtain ⟨x1, x2, x3⟩ := Vm.findClass_spec a4
  obtain ⟨y1, y2, y3⟩ := Vm.findClass_spec b4
  cases x2.symm.trans (fr_ffc a3)
  cases y2.symm.trans (fr_ffc b3)
  exact hne (x3.symm.trans (a6.symm.trans (b6.trans y3)))
theorem fs_put (hx : p.tables.exec = Jvm.exec) (hb : c.code = cc) (hS : fr_St G S0 a0) (hW : S0.WarmedH s.vm) (pf : fp_fk) (pt : fp_ty) (pl : fp_lay) (pn : fp_nm) (hown : s.vm.findClass own = some m.cls) (ho : fi_cn[o]? = some own) (hd : decode cc pc = .ok (.putfield i, 3)) (hf : fi_fk o i = some f)
    (hR : fr_R G h H) {v : FV} (hv : fr_nv (h 2 0 0) v) {r : Int} (hr : fr_nv (h 2 0 0) (4, r)) (hr0 : ¬ r ≤ (fi_J : Int)) (hin : fi_in (h 0 r.toNat 0) f = true) (hk : h 0 r.toNat 0 < 134) (ht : v.1 = fi_tg (fi_ft f)) (hg : fi_rg (fi_ft f) v.2 = true)
    (hfin : ∀ q, fi_fn[f - 100]? = some q → q.2.2.2 = true → meth.name = "<init>" ∧ q.1 = own)
    (hloc : ∀ q ∈ locs, fr_B G ≤ q.base)
    (kk : ∀ H' locs', fr_R G (fi_upd h f r.toNat 0 v.2) H' → (∀ q ∈ locs', fr_B G ≤ q.base) → W p l e R s m args below meth c H' locs' cells slots Q (F0 m (pc + 3) ls (st.map (fr_e G)))) : W p l e R s m args below meth c H locs cells slots Q (F0 m pc ls ((v :: (4, r) :: st).map (fr_e G))) := by
  obtain ⟨hf1, own', q, ref, ho', hq, hlink, hsame⟩ := pf o i f hf
  cases ho.symm.trans ho'
  have hr' : 0 ≤ r ∧ r ≤ h 2 0 0 := hr
  have hJ0 : (0 : Int) ≤ (fi_J : Int) := by omega
  obtain ⟨cell, hc, hC⟩ := hR.2.2.2.2.2 r.toNat (by omega) (by omega)
  have hk1 := fr_in hin
  obtain ⟨cn, hcn⟩ : ∃ cn : Nat, h 0 r.toNat 0 = 100 + (cn : Int) := ⟨(h 0 r.toNat 0 - 100).toNat, by omega⟩
  have hcn2 : cn < 34 := by omega
  unfold fr_C at hC
  rw [if_neg (by omega)] at hC
  obtain ⟨cf, kf, fi, fd, h1, h2, h3⟩ := fr_ff_moved hW.alike (hS.2.2.1 f q hf1 hq)
  have h1' := fr_same hS hW hsame h1
  obtain ⟨ty, hpd, htc⟩ := pt f q hf1 hq
  obtain ⟨-, C, q2, hCn, hq2, hlay⟩ := pl cn f hcn2 (by rw [← hcn]; exact hin)
  cases hq.symm.trans hq2
  have htr := fr_tcr ty
  have hnt : fr_nt (h 2 0 0) (fr_tc ty) v.2 := ⟨by rw [htc]; exact hg, fun _ _ => by rw [htc, ← ht]; exact hv⟩
  have hfit := fr_fit (G := G) hnt
  have hve : fr_e G v = fr_e G (fi_tg (fr_tc ty), v.2) := by rw [htc, ← ht]
  have hclass : ClassAt s C (fr_cl G (h 0 r.toNat 0).toNat) := by
    have hob : fr_ob (h 0 r.toNat 0).toNat = true := by
      unfold fr_ob
      unfold fi_in at hin
      simp only [Bool.and_eq_true, decide_eq_true_eq] at hin ⊢
      refine ⟨by omega, ?_⟩
      cases hl : fi_cf.getD ((h 0 r.toNat 0).toNat - 100) [] with
      | nil => rw [hl] at hin; simp at hin
      | cons a b => rfl
    have := classAt_moved hW.alike (hS.2.2.2.1 _ hob)
    have he : fi_cn.getD ((h 0 r.toNat 0).toNat - 100) "" = C := by
      have : (h 0 r.toNat 0).toNat - 100 = cn := by omega
      rw [this, List.getD_eq_getElem?_getD, hCn]; rfl
    rwa [he] at this
  obtain ⟨hfc, kC, hkC, hkind⟩ := hclass
  have hap : ∀ f', fi_in (h 0 r.toNat 0) f' = true → f' ≠ f → fr_sl G f' ≠ fr_sl G f := by
    intro f' hf' hne
    obtain ⟨hf1', C', q', hCn', hq', hlay'⟩ := pl cn f' hcn2 (by rw [← hcn]; exact hf')
    cases hCn.symm.trans hCn'
    obtain ⟨cf', kf', fi', fd', h1', h2', h3'⟩ := fr_ff_moved hW.alike (hS.2.2.1 f' q' hf1' hq')
    obtain ⟨ty', hpd', -⟩ := pt f' q' hf1' hq'
    rw [← h2', ← h2]
    have e1 : (Cond.lays C q'.1 q'.2.1 q'.2.2.1).before #[] s = true ∨ (Cond.laysFinal C q'.1 q'.2.1 q'.2.2.1).before #[] s = true := by
      have := fw (args := #[]) hS hW hlay'
      split at this
      · exact Or.inr this
      · exact Or.inl this
    have e2 : (Cond.lays C q.1 q.2.1 q.2.2.1).before #[] s = true ∨ (Cond.laysFinal C q.1 q.2.1 q.2.2.1).before #[] s = true := by
      have := fw (args := #[]) hS hW hlay
      split at this
      · exact Or.inr this
      · exact Or.inl this
    rcases pn cn f' f q' q hcn2 (by rw [← hcn]; exact hf') (by rw [← hcn]; exact hin) hne hq' hq with hnn | ⟨hno, hb1, hb2⟩
    · refine u_apart e1 e2 h1' h1 ?_
      rw [(State.fieldFound?_type h1' hpd').1, (State.fieldFound?_type h1 hpd).1]
      exact hnn
    · have g1 := fw (args := #[]) hS hW hlay'
      have g2 := fw (args := #[]) hS hW hlay
      rw [if_pos hb1] at g1
      rw [if_pos hb2] at g2
      exact fr_apart2 g1 g2 h1' h1 hno
  have hJr : fi_J < r.toNat := by omega
  have hlt : fd.slot < cell.slots.size := by rw [h2]; exact k2_hasslot (hC.2.2 f hin)
  have kk2 : ∀ H' : Heap, H'[fr_ad G r.toNat]? = some (cell.setSlot fd.slot (fr_e G v)) → H'.size = H.size → (∀ q, q ≠ fr_ad G r.toNat → H'[q]? = H[q]?) → W p l e R s m args below meth c H' (locs ++ [⟨fr_ad G r.toNat, fd.slot⟩]) cells slots Q (F0 m (pc + 3) ls (st.map (fr_e G))) := by
    intro H' e1 e2 e3
    refine kk H' _ (fr_put hS.2.1 hR hJr (by omega) hf1 hk1 hin (by rw [← htc]; exact hnt) hap hc (by rw [← h2, ← htc, ← hve]; exact e1) e2 e3) (fun z hz => ?_)
    rcases List.mem_append.mp hz with hz | hz
    · exact hloc z hz
    · rw [List.mem_singleton.mp hz]; exact fr_ad_new hJr
  show W p l e R s m args below meth c H locs cells slots Q (F0 m pc ls (fr_e G v :: fr_rv G r :: st.map (fr_e G)))
  unfold fr_rv
  rw [if_neg (by omega)]
  by_cases hfl : q.2.2.2 = true
  · rw [if_pos hfl] at hlay
    have hl := fw (args := args) hS hW hlay
    obtain ⟨hm1, hm2⟩ := hfin q hq hfl
    have hcf : m.cls = cf := by
      obtain ⟨_, _, c', _, _, _, -, -, hf', -, -, -, hown2, -⟩ := Cond.laysFinal_spec hl
      have e1 : c' = cf := by have := h1.symm.trans hf'; simp at this; exact this.1.symm
      rw [hm2] at hown2
      rw [← e1]; exact Option.some.inj (hown.symm.trans hown2)
    have h6 := u_fits hfc hkC hkind (Or.inr hl) h1 hpd hfit.1 hfit.2
    rw [← hve] at h6
    rcases hlink with hk9 | ⟨host, hk9, hne9⟩
    · exact W.putFinK hx hb hown (fw hS hW hk9) h1' h3 hcf hm1 (by rw [hC.1]; exact h6) hc hC.2.1 hlt rfl rfl hd kk2
    · exact absurd hm2 hne9
  · rw [if_neg hfl] at hlay
    have hl := fw (args := args) hS hW hlay
    have h6 := u_store hfc hkC hkind hl h1 hpd hfit.1 hfit.2
    rw [← hve] at h6
    rcases hlink with hk9 | ⟨host, hk9, -⟩
    · exact W.putK hx hb ⟨hown, fw hS hW hk9, ⟨_, _, _, h1'⟩, h3⟩ (by rw [hC.1]; exact h6) hc hC.2.1 hlt rfl rfl hd kk2
    · exact va_WputK hx hb hown (va_Nw.use rfl (va_Nw.warmF hW (va_Nw.of rfl (hS.1 _ hk9)))) h1' h3 (by rw [hC.1]; exact h6) hc hC.2.1 hlt rfl rfl hd kk2
end FF
