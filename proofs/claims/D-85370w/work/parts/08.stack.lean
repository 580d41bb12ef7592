/-! one step over the machine: constants, locals, the stack, arithmetic -/
section FS
variable {p : Program} {l : Launch} {e : Env} {R : Room} {s : State} {m : MethodId} {args : Array Value} {below : List Frame} {meth : Method} {c : Code} {H : Heap} {locs : List Loc} {cells slots : Nat} {Q : State → Prop}
variable {cc : ByteArray} {pc len : Nat} {ls : Array Slot} {G : fr_G} {top : Int} {st : List FV} {ins : Instr} {nL : Nat}
theorem fs_c0 (hx : p.tables.exec = Jvm.exec) (hb : c.code = cc) (hd : decode cc pc = .ok (ins, len)) {v : FV} (h : fi_c0 ins len = some v) (htop : 0 ≤ top)
    (kk : fr_nv top v → W p l e R s m args below meth c H locs cells slots Q (F0 m (pc + len) ls ((v :: st).map (fr_e G)))) : W p l e R s m args below meth c H locs cells slots Q (F0 m pc ls (st.map (fr_e G))) := by
  unfold fi_c0 at h
  split at h
  · cases h; exact lv_iconst hx hb hd rfl (by have := kk (fr_nv_i _ _); rwa [List.map_cons, fr_e_i] at this)
  · cases h; exact lv_bipush hx hb hd rfl (by have := kk (fr_nv_i _ _); rwa [List.map_cons, fr_e_i] at this)
  · cases h; exact lv_sipush hx hb hd rfl (by have := kk (fr_nv_i _ _); rwa [List.map_cons, fr_e_i] at this)
  · cases h; exact lv_lconst hx hb hd rfl (by have := kk (fr_nv_l _ _); rwa [List.map_cons, fr_e_l] at this)
  · split at h
    · rename_i n h0; subst h0; cases h; exact lv_fconst0 hx hb hd (by have := kk (fr_nv_f _ _); rwa [List.map_cons, fr_e_f] at this)
    · split at h
      · rename_i n _ h0; subst h0; cases h; exact lv_fconst1 hx hb hd (by have := kk (fr_nv_f _ _); rwa [List.map_cons, fr_e_f] at this)
      · cases h
  · rename_i n
    split at h
    · rename_i h0; subst h0; cases h; exact lv_dconst0 hx hb hd (by have := kk (fr_nv_d _ _); rwa [List.map_cons, fr_e_d] at this)
    · rename_i h0
      have h1 : n = 1 := by omega
      subst h1; cases h; exact lv_dconst1 hx hb hd (by have := kk (fr_nv_d _ _); rwa [List.map_cons, fr_e_d] at this)
  · cases h
    refine lv_null hx hb hd ?_
    have := kk ⟨Int.le_refl 0, htop⟩
    exact this
  · cases h
theorem fs_lk {L : fi_L} {i : Nat} {v : FV} (h : L.lookup i = some v) : (i, v) ∈ L := by
  induction L with
  | nil => cases h
  | cons q L ih =>
    obtain ⟨j, w⟩ := q
    rw [List.lookup_cons] at h
    by_cases hij : (i == j) = true
    · rw [hij] at h
      cases h
      have : i = j := by simpa using hij
      subst this
      exact List.mem_cons_self
    · rw [Bool.eq_false_iff.mpr hij] at h
      exact List.mem_cons_of_mem _ (ih h)
theorem fs_at {L : fi_L} {i : Nat} {v : FV} (hl : lv_has ls nL (fr_eL G L)) (h : L.lookup i = some v) : ls[i]? = some (.val (fr_e G v)) :=
  hl.2.2 (i, fr_e G v) (List.mem_map.mpr ⟨(i, v), fs_lk h, rfl⟩)
/-- a reference's word: null or a place -/
theorem fs_ref (G : fr_G) (x : Int) : (fr_rv G x = .null ∧ x = 0) ∨ ∃ a, fr_rv G x = .ref a := by
  unfold fr_rv
  by_cases h : x = 0
  · exact Or.inl ⟨if_pos h, h⟩
  · exact Or.inr ⟨_, if_neg h⟩
theorem fs_a45 (hA : fr_A G) {v : FV} (hv : fr_nv top v) (ho : fi_okt 4 v.1 = true) : fr_e G v = .null ∨ ∃ a, fr_e G v = .ref a := by
  obtain ⟨t, x⟩ := v
  have : t = 4 ∨ t = 5 := by simp [fi_okt] at ho; omega
  rcases this with rfl | rfl
  · rcases fs_ref G x with ⟨h, -⟩ | h
    · exact Or.inl h
    · exact Or.inr h
  · rcases hA.2.2.1 with h | h
    · exact Or.inr h
    · exact Or.inl h
theorem fs_ok {t : Nat} {v : FV} (ht : t ≠ 4) (h : fi_okt t v.1 = true) : ∃ x, v = (t, x) := by
  obtain ⟨u, x⟩ := v
  have : t = u := by simpa [fi_okt, ht] using h
  exact ⟨x, by rw [this]⟩
theorem fs_ld (hx : p.tables.exec = Jvm.exec) (hb : c.code = cc) (hd : decode cc pc = .ok (ins, len)) (hA : fr_A G) {L : fi_L} (hl : lv_has ls nL (fr_eL G L)) {i t : Nat} (h : fi_ld ins len = some (i, t)) {v : FV} (hv : L.lookup i = some v) (hn : fr_nv top v) (ho : fi_okt t v.1 = true)
    (kk : W p l e R s m args below meth c H locs cells slots Q (F0 m (pc + len) ls ((v :: st).map (fr_e G)))) : W p l e R s m args below meth c H locs cells slots Q (F0 m pc ls (st.map (fr_e G))) := by
  have hat := fs_at hl hv
  unfold fi_ld at h
  split at h <;> try (cases h)
  all_goals first
    | (obtain ⟨x, rfl⟩ := fs_ok (by decide) ho
       first
        | exact lv_iload_n hx hb hd rfl hat kk
        | exact lv_iload hx hb hd hat kk
        | exact lv_lload_n hx hb hd rfl hat kk
        | exact lv_lload hx hb hd hat kk
        | exact lv_fload_n hx hb hd rfl hat kk
        | exact lv_fload hx hb hd hat kk
        | exact lv_dload_n hx hb hd rfl hat kk
        | exact lv_dload hx hb hd hat kk)
    | (rcases fs_a45 hA hn ho with h0 | ⟨a, h0⟩
       · rw [h0] at hat
         rw [List.map_cons, h0] at kk
         first
          | exact lv_aload_nN hx hb hd rfl hat kk
          | exact lv_aloadN hx hb hd hat kk
       · rw [h0] at hat
         rw [List.map_cons, h0] at kk
         first
          | exact lv_aload_n hx hb hd rfl hat kk
          | exact lv_aload hx hb hd hat kk)
theorem fs_flt1 (hA : fr_A G) {i : Nat} : ∀ {L : fi_L}, (∀ q ∈ L, fr_nv top q.2) → (fr_eL G L).filter (fun q => !(q.1 == i) && !(q.1 + 1 == i && q.2.category == 2)) = fr_eL G (L.filter (fun q => !(q.1 == i) && !(q.1 + 1 == i && fi_wide q.2))) := by
  intro L hL
  unfold fr_eL
  rw [List.filter_map]
  congr 1
  apply List.filter_congr
  intro q hq
  show (!(q.1 == i) && !(q.1 + 1 == i && (fr_e G q.2).category == 2)) = _
  rw [fr_wide hA (hL q hq)]
  cases fi_wide q.2 <;> rfl
theorem fs_flt2 (hA : fr_A G) {i : Nat} : ∀ {L : fi_L}, (∀ q ∈ L, fr_nv top q.2) → (fr_eL G L).filter (fun q => !(q.1 == i) && (!(q.1 == i + 1) && !(q.1 + 1 == i && q.2.category == 2))) = fr_eL G (L.filter (fun q => !(q.1 == i) && (!(q.1 == i + 1) && !(q.1 + 1 == i && fi_wide q.2)))) := by
  intro L hL
  unfold fr_eL
  rw [List.filter_map]
  congr 1
  apply List.filter_congr
  intro q hq
  show (!(q.1 == i) && (!(q.1 == i + 1) && !(q.1 + 1 == i && (fr_e G q.2).category == 2))) = _
  rw [fr_wide hA (hL q hq)]
  cases fi_wide q.2 <;> rfl
theorem fs_setN {L : fi_L} (hL : ∀ q ∈ L, fr_nv top q.2) {v : FV} (hv : fr_nv top v) (i : Nat) : ∀ q ∈ fi_set L i v, fr_nv top q.2 := by
  intro q hq
  unfold fi_set at hq
  split at hq
  · rcases List.mem_cons.mp hq with rfl | hq
    · exact hv
    · exact hL q (List.mem_filter.mp hq).1
  · rcases List.mem_cons.mp hq with rfl | hq
    · exact hv
    · exact hL q (List.mem_filter.mp hq).1
theorem fs_set1 (hA : fr_A G) {L : fi_L} (hL : ∀ q ∈ L, fr_nv top q.2) {v : FV} (hw : fi_wide v = false) (i : Nat) : (i, fr_e G v) :: (fr_eL G L).filter (fun q => !(q.1 == i) && !(q.1 + 1 == i && q.2.category == 2)) = fr_eL G (fi_set L i v) := by
  rw [fs_flt1 hA hL]
  unfold fi_set
  rw [hw]
  rfl
theorem fs_set2 (hA : fr_A G) {L : fi_L} (hL : ∀ q ∈ L, fr_nv top q.2) {v : FV} (hw : fi_wide v = true) (i : Nat) : (i, fr_e G v) :: (fr_eL G L).filter (fun q => !(q.1 == i) && (!(q.1 == i + 1) && !(q.1 + 1 == i && q.2.category == 2))) = fr_eL G (fi_set L i v) := by
  rw [fs_flt2 hA hL]
  unfold fi_set
  rw [hw]
  rfl
theorem fs_st (hx : p.tables.exec = Jvm.exec) (hb : c.code = cc) (hd : decode cc pc = .ok (ins, len)) (hA : fr_A G) {L : fi_L} (hL : ∀ q ∈ L, fr_nv top q.2) (hl : lv_has ls nL (fr_eL G L)) {i t : Nat} (h : fi_st ins len = some (i, t)) {v : FV} (hn : fr_nv top v) (ho : fi_okt t v.1 = true) (hi : i + (if fi_wide v then 1 else 0) < nL)
    (kk : ∀ ls, lv_has ls nL (fr_eL G (fi_set L i v)) → W p l e R s m args below meth c H locs cells slots Q (F0 m (pc + len) ls (st.map (fr_e G)))) : W p l e R s m args below meth c H locs cells slots Q (F0 m pc ls ((v :: st).map (fr_e G))) := by
  unfold fi_st at h
  split at h
  · cases h; obtain ⟨x, rfl⟩ := fs_ok (by decide) ho; exact lv_istore_n hx hb hd rfl hl (by simpa [fi_wide] using hi) (fs_set1 hA hL (v := (0, x)) rfl _) kk
  · cases h; obtain ⟨x, rfl⟩ := fs_ok (by decide) ho; exact lv_istore hx hb hd hl (by simpa [fi_wide] using hi) (fs_set1 hA hL (v := (0, x)) rfl _) kk
  · cases h; obtain ⟨x, rfl⟩ := fs_ok (by decide) ho; exact lv_lstore_n hx hb hd rfl hl (by simpa [fi_wide] using hi) (fs_set2 hA hL (v := (1, x)) rfl _) kk
  · cases h; obtain ⟨x, rfl⟩ := fs_ok (by decide) ho; exact lv_lstore hx hb hd hl (by simpa [fi_wide] using hi) (fs_set2 hA hL (v := (1, x)) rfl _) kk
  · cases h; obtain ⟨x, rfl⟩ := fs_ok (by decide) ho; exact lv_fstore_n hx hb hd rfl hl (by simpa [fi_wide] using hi) (fs_set1 hA hL (v := (2, x)) rfl _) kk
  · cases h; obtain ⟨x, rfl⟩ := fs_ok (by decide) ho; exact lv_fstore hx hb hd hl (by simpa [fi_wide] using hi) (fs_set1 hA hL (v := (2, x)) rfl _) kk
  · cases h; obtain ⟨x, rfl⟩ := fs_ok (by decide) ho; exact lv_dstore_n hx hb hd rfl hl (by simpa [fi_wide] using hi) (fs_set2 hA hL (v := (3, x)) rfl _) kk
  · cases h; obtain ⟨x, rfl⟩ := fs_ok (by decide) ho; exact lv_dstore hx hb hd hl (by simpa [fi_wide] using hi) (fs_set2 hA hL (v := (3, x)) rfl _) kk
  · cases h
    have hw : fi_wide v = false := by
      have : v.1 = 4 ∨ v.1 = 5 := by simp [fi_okt] at ho; omega
      rcases this with q | q <;> simp [fi_wide, q]
    have hi2 := hi
    rw [hw] at hi2
    rw [List.map_cons]
    have hset := fun j => fs_set1 hA hL hw j
    rcases fs_a45 hA hn ho with h0 | ⟨a, h0⟩
    · rw [h0]
      simp only [h0] at hset
      exact lv_astore_nN hx hb hd rfl hl (by simpa using hi2) (hset _) kk
    · rw [h0]
      simp only [h0] at hset
      exact lv_astore_n hx hb hd rfl hl (by simpa using hi2) (hset _) kk
  · cases h
    have hw : fi_wide v = false := by
      have : v.1 = 4 ∨ v.1 = 5 := by simp [fi_okt] at ho; omega
      rcases this with q | q <;> simp [fi_wide, q]
    have hi2 := hi
    rw [hw] at hi2
    rw [List.map_cons]
    have hset := fun j => fs_set1 hA hL hw j
    rcases fs_a45 hA hn ho with h0 | ⟨a, h0⟩
    · rw [h0]
      simp only [h0] at hset
      exact lv_astoreN hx hb hd hl (by simpa using hi2) (hset _) kk
    · rw [h0]
      simp only [h0] at hset
      exact lv_astore hx hb hd hl (by simpa using hi2) (hset _) kk
  · cases h
theorem fs_w1 (hA : fr_A G) {v : FV} (hv : fr_nv top v) (h : fi_wide v = false) : (fr_e G v).category = 1 := by rw [fr_wide hA hv, h]; rfl
theorem fs_w2 (hA : fr_A G) {v : FV} (hv : fr_nv top v) (h : fi_wide v = true) : (fr_e G v).category = 2 := by rw [fr_wide hA hv, h]; rfl
theorem fs_sh (hx : p.tables.exec = Jvm.exec) (hb : c.code = cc) (hd : decode cc pc = .ok (ins, 1)) (hA : fr_A G) (hn : ∀ v ∈ st, fr_nv top v) {st' : List FV} (h : fi_sh ins st = some st')
    (kk : (∀ v ∈ st', fr_nv top v) → W p l e R s m args below meth c H locs cells slots Q (F0 m (pc + 1) ls (st'.map (fr_e G)))) : W p l e R s m args below meth c H locs cells slots Q (F0 m pc ls (st.map (fr_e G))) := by
  unfold fi_sh at h
  split at h
  · rename_i a s'
    split at h
    · cases h
    · rename_i hw
      cases h
      have h1 := hn a (by simp)
      exact lv_dup hx hb hd (fs_w1 hA h1 (by simpa using hw)) (kk (fun v hv => by rcases List.mem_cons.mp hv with rfl | hv; exact h1; exact hn v hv))
  · rename_i a s'
    split at h
    · cases h
    · rename_i hw
      cases h
      exact lv_pop hx hb hd (fs_w1 hA (hn a (by simp)) (by simpa using hw)) (kk (fun v hv => hn v (List.mem_cons_of_mem _ hv)))
  · rename_i a b s'
    split at h
    · cases h
    · rename_i hw
      cases h
      simp only [Bool.or_eq_true, not_or] at hw
      exact lv_dup_x1 hx hb hd (fs_w1 hA (hn a (by simp)) (by simpa using hw.1)) (fs_w1 hA (hn b (by simp)) (by simpa using hw.2)) (kk (fun v hv => by
        rcases List.mem_cons.mp hv with rfl | hv
        · exact hn v (by simp)
        · rcases List.mem_cons.mp hv with rfl | hv
          · exact hn v (by simp)
          · rcases List.mem_cons.mp hv with rfl | hv
            · exact hn v (by simp)
            · exact hn v (by simp [hv])))
  · rename_i a b s'
    split at h
    · rename_i hw
      cases h
      exact lv_dup2_2 hx hb hd (fs_w2 hA (hn a (by simp)) hw) (kk (fun v hv => by rcases List.mem_cons.mp hv with rfl | hv; exact hn v (by simp); exact hn v hv))
    · rename_i hw
      split at h
      · cases h
      · rename_i hw2
        cases h
        exact lv_dup2_11 hx hb hd (fs_w1 hA (hn a (by simp)) (by simpa using hw)) (fs_w1 hA (hn b (by simp)) (by simpa using hw2)) (kk (fun v hv => by
          rcases List.mem_cons.mp hv with rfl | hv
          · exact hn v (by simp)
          · rcases List.mem_cons.mp hv with rfl | hv
            · exact hn v (by simp)
            · exact hn v hv))
  · rename_i a
    split at h
    · rename_i hw
      cases h
      exact lv_dup2_2 hx hb hd (fs_w2 hA (hn a (by simp)) hw) (kk (fun v hv => by rcases List.mem_cons.mp hv with rfl | hv; exact hn v (by simp); exact hn v hv))
    · cases h
  · cases h
end FS
