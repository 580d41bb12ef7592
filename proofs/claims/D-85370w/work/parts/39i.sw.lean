/-! decode of the two switches by the bytes from their place on -/
def fq_rd4 : List Nat → Option (Int × List Nat)
  | a :: b :: c :: d :: r => some (Reader.signed 32 ((a * 256 + b) * 65536 + (c * 256 + d)), r)
  | _ => none
def fq_dr (code : ByteArray) (p : Nat) (l : List Nat) : Prop := (code.data.toList.map UInt8.toNat).drop p = l
theorem fq_dr_cons {code : ByteArray} {p a : Nat} {l : List Nat} (h : fq_dr code p (a :: l)) : (∃ u : UInt8, code.data.toList[p]? = some u ∧ u.toNat = a) ∧ fq_dr code (p + 1) l := by
  unfold fq_dr at h
  constructor
  · have h1 : ((code.data.toList.map UInt8.toNat).drop p)[0]? = some a := by rw [h]; rfl
    rw [List.getElem?_drop, List.getElem?_map, Nat.add_zero] at h1
    cases hq : code.data.toList[p]? with
    | none => rw [hq] at h1; cases h1
    | some u => rw [hq] at h1; exact ⟨u, rfl, Option.some.inj h1⟩
  · unfold fq_dr
    rw [← List.drop_drop, h]
    rfl
theorem fq_s4 {code : ByteArray} {p : Nat} {l l' : List Nat} {v : Int} (h : fq_dr code p l) (e : fq_rd4 l = some (v, l')) : (Reader.s4 : Reader DecodeError Int) code p = .ok (v, p + 4) ∧ fq_dr code (p + 4) l' := by
  unfold fq_rd4 at e
  split at e
  · rename_i a b c d r
    cases e
    obtain ⟨⟨ua, ha, rfl⟩, h1⟩ := fq_dr_cons h
    obtain ⟨⟨ub, hb, rfl⟩, h2⟩ := fq_dr_cons h1
    obtain ⟨⟨uc, hc, rfl⟩, h3⟩ := fq_dr_cons h2
    obtain ⟨⟨ud, hd, rfl⟩, h4⟩ := fq_dr_cons h3
    refine ⟨?_, h4⟩
    have e4 : (Reader.u4 : Reader DecodeError Nat) code p = .ok ((ua.toNat * 256 + ub.toNat) * 65536 + (uc.toNat * 256 + ud.toNat), p + 4) := by
      show (Reader.u2 >>= fun hi => Reader.u2 >>= fun lo => Pure.pure (hi * 65536 + lo) : Reader DecodeError Nat) code p = _
      rw [dk_bind (dk_u2 ha hb), dk_bind (dk_u2 hc hd)]
      rfl
    exact dk_map e4
  · cases e
def fq_go4 : Nat → Array Int → List Nat → Option (Array Int × List Nat)
  | 0, acc, l => some (acc, l)
  | k + 1, acc, l => match fq_rd4 l with
    | some (v, l') => fq_go4 k (acc.push v) l'
    | none => none
theorem fq_go4_ok {code : ByteArray} : ∀ (k : Nat) (acc : Array Int) (p : Nat) (l : List Nat) (o : Array Int) (l' : List Nat), fq_dr code p l → fq_go4 k acc l = some (o, l') → (Reader.times.go (Reader.s4 : Reader DecodeError Int) k acc) code p = .ok (o, p + 4 * k)
  | 0, acc, p, l, o, l', _, e => by
    unfold fq_go4 at e
    cases e
    rfl
  | k + 1, acc, p, l, o, l', h, e => by
    unfold fq_go4 at e
    cases hr : fq_rd4 l with
    | none => rw [hr] at e; cases e
    | some q =>
      obtain ⟨v, l1⟩ := q
      rw [hr] at e
      obtain ⟨h1, h2⟩ := fq_s4 h hr
      have := fq_go4_ok k (acc.push v) (p + 4) l1 o l' h2 e
      show ((Reader.s4 : Reader DecodeError Int) >>= fun x => Reader.times.go Reader.s4 k (acc.push x)) code p = _
      rw [dk_bind h1, this]
      congr 2
      omega
def fq_go8 : Nat → Array (Int × Int) → List Nat → Option (Array (Int × Int) × List Nat)
  | 0, acc, l => some (acc, l)
  | k + 1, acc, l => match fq_rd4 l with
    | some (v, l') => match fq_rd4 l' with
      | some (w, l2) => fq_go8 k (acc.push (v, w)) l2
      | none => none
    | none => none
theorem fq_go8_ok {code : ByteArray} : ∀ (k : Nat) (acc : Array (Int × Int)) (p : Nat) (l : List Nat) (o : Array (Int × Int)) (l' : List Nat), fq_dr code p l → fq_go8 k acc l = some (o, l') → (Reader.times.go (do Pure.pure (← (Reader.s4 : Reader DecodeError Int), ← Reader.s4)) k acc) code p = .ok (o, p + 8 * k)
  | 0, acc, p, l, o, l', _, e => by
    unfold fq_go8 at e
    cases e
    rfl
  | k + 1, acc, p, l, o, l', h, e => by
    unfold fq_go8 at e
    cases hr : fq_rd4 l with
    | none => rw [hr] at e; cases e
    | some q =>
      obtain ⟨v, l1⟩ := q
      rw [hr] at e
      simp only at e
      cases hr2 : fq_rd4 l1 with
      | none => rw [hr2] at e; cases e
      | some q2 =>
        obtain ⟨w, l2⟩ := q2
        rw [hr2] at e
        obtain ⟨h1, h2⟩ := fq_s4 h hr
        obtain ⟨h3, h4⟩ := fq_s4 h2 hr2
        have := fq_go8_ok k (acc.push (v, w)) (p + 4 + 4) l2 o l' h4 e
        have e2 : ((do Pure.pure (← (Reader.s4 : Reader DecodeError Int), ← Reader.s4)) : Reader DecodeError (Int × Int)) code p = .ok ((v, w), p + 4 + 4) := by
          show ((Reader.s4 : Reader DecodeError Int) >>= fun x => (Reader.s4 : Reader DecodeError Int) >>= fun y => Pure.pure (x, y)) code p = _
          rw [dk_bind h1, dk_bind h3]
          rfl
        show (((do Pure.pure (← (Reader.s4 : Reader DecodeError Int), ← Reader.s4)) : Reader DecodeError (Int × Int)) >>= fun x => Reader.times.go (do Pure.pure (← (Reader.s4 : Reader DecodeError Int), ← Reader.s4)) k (acc.push x)) code p = _
        rw [dk_bind e2, this]
        congr 2
        omega
theorem fq_padd {code : ByteArray} {p : Nat} (h : p + (4 - p % 4) % 4 ≤ code.size) : (Decoder.padding : Decoder Unit) code p = .ok ((), p + (4 - p % 4) % 4) := by
  have e1 : (Reader.bytes ((4 - p % 4) % 4) : Reader DecodeError ByteArray) code p = .ok (code.extract p (p + (4 - p % 4) % 4), p + (4 - p % 4) % 4) := by
    show (do if p + (4 - p % 4) % 4 ≤ code.size then do set (p + (4 - p % 4) % 4); Pure.pure (code.extract p (p + (4 - p % 4) % 4)) else MonadExcept.throw (HasTruncated.truncated code.size) : Reader DecodeError ByteArray) code p = _
    rw [if_pos h]
    rfl
  show ((Reader.pos : Reader DecodeError Nat) >>= fun q => (Reader.bytes ((4 - q % 4) % 4) : Reader DecodeError ByteArray) >>= fun _ => Pure.pure ()) code p = _
  rw [dk_bind (show (Reader.pos : Reader DecodeError Nat) code p = .ok (p, p) from rfl), dk_bind e1]
  rfl
/-- a switch, by the bytes from its place on -/
def fq_ts (pc : Nat) (rem : List Nat) : Option (Instr × Nat) := match rem with
  | [] => none
  | b :: r => match fq_rd4 (r.drop ((4 - (pc + 1) % 4) % 4)) with
    | none => none
    | some (dflt, r1) => match fq_rd4 r1 with
      | none => none
      | some (lo, r2) =>
        if b = 170 then match fq_rd4 r2 with
          | none => none
          | some (hi, r3) => if lo ≤ hi then match fq_go4 (hi - lo + 1).toNat #[] r3 with
            | some (o, _) => some (.tableswitch dflt lo hi o, 1 + (4 - (pc + 1) % 4) % 4 + 12 + 4 * (hi - lo + 1).toNat)
            | none => none
            else none
        else if b = 171 then (if 0 ≤ lo then match fq_go8 lo.toNat #[] r2 with
            | some (o, _) => if Decoder.increasing (o.toList.map (·.1)) = true then some (.lookupswitch dflt o, 1 + (4 - (pc + 1) % 4) % 4 + 8 + 8 * lo.toNat) else none
            | none => none
            else none)
        else none
theorem fq_dr_drop {code : ByteArray} {p k : Nat} {l : List Nat} (h : fq_dr code p l) : fq_dr code (p + k) (l.drop k) := by
  unfold fq_dr at h ⊢
  rw [← List.drop_drop, h]
theorem fq_dr_size {code : ByteArray} {p : Nat} {l : List Nat} {v : Int × List Nat} (h : fq_dr code p l) (e : fq_rd4 l = some v) : p ≤ code.size := by
  cases l with
  | nil => cases e
  | cons a l =>
    obtain ⟨⟨u, hu, -⟩, -⟩ := fq_dr_cons h
    obtain ⟨h1, -⟩ := List.getElem?_eq_some_iff.mp hu
    have : p < code.size := by simpa using h1
    omega
theorem fq_ts_ok {code : ByteArray} {pc : Nat} {rem : List Nat} {ins : Instr} {len : Nat} (h : fq_dr code pc rem) (e : fq_ts pc rem = some (ins, len)) : decode code pc = .ok (ins, len) := by
  unfold fq_ts at e
  cases rem with
  | nil => cases e
  | cons b r =>
    simp only at e
    obtain ⟨⟨u, hu, rfl⟩, h1⟩ := fq_dr_cons h
    cases e1 : fq_rd4 (r.drop ((4 - (pc + 1) % 4) % 4)) with
    | none => rw [e1] at e; cases e
    | some q =>
      obtain ⟨dflt, r1⟩ := q
      rw [e1] at e
      simp only at e
      cases e2 : fq_rd4 r1 with
      | none => rw [e2] at e; cases e
      | some q =>
        obtain ⟨lo, r2⟩ := q
        rw [e2] at e
        simp only at e
        have h2 := fq_dr_drop (k := (4 - (pc + 1) % 4) % 4) h1
        have hp := fq_padd (fq_dr_size h2 e1)
        obtain ⟨s1, h3⟩ := fq_s4 h2 e1
        obtain ⟨s2, h4⟩ := fq_s4 h3 e2
        by_cases b0 : u.toNat = 170
        · rw [if_pos b0] at e
          cases e3 : fq_rd4 r2 with
          | none => rw [e3] at e; cases e
          | some q =>
            obtain ⟨hi, r3⟩ := q
            rw [e3] at e
            simp only at e
            by_cases hl : lo ≤ hi
            · rw [if_pos hl] at e
              obtain ⟨s3, h5⟩ := fq_s4 h4 e3
              cases e4 : fq_go4 (hi - lo + 1).toNat #[] r3 with
              | none => rw [e4] at e; cases e
              | some q =>
                obtain ⟨o, r4⟩ := q
                rw [e4] at e
                cases e
                have s4 := fq_go4_ok _ _ _ _ _ _ h5 e4
                have hu' : u = 170 := by
                  have := UInt8.toNat_inj.mp (show u.toNat = (170 : UInt8).toNat from b0); exact this
                subst hu'
                refine dk_of ((dk_bind (dk_u1 hu)).trans ?_)
                show (Decoder.tableswitch pc : Decoder Instr) code (pc + 1) = _
                unfold Decoder.tableswitch
                rw [dk_bind hp, dk_bind s1, dk_bind s2, dk_bind s3, if_pos hl]
                dsimp only
                refine (dk_bind s4).trans ?_
                show Except.ok (_, _) = _
                congr 2
                omega
            · rw [if_neg hl] at e; cases e
        · rw [if_neg b0] at e
          by_cases b1 : u.toNat = 171
          · rw [if_pos b1] at e
            by_cases hl : 0 ≤ lo
            · rw [if_pos hl] at e
              cases e4 : fq_go8 lo.toNat #[] r2 with
              | none => rw [e4] at e; cases e
              | some q =>
                obtain ⟨o, r4⟩ := q
                rw [e4] at e
                simp only at e
                by_cases hi : Decoder.increasing (o.toList.map (·.1)) = true
                · rw [if_pos hi] at e
                  cases e
                  have s4 := fq_go8_ok _ _ _ _ _ _ h4 e4
                  have hu' : u = 171 := by
                    have := UInt8.toNat_inj.mp (show u.toNat = (171 : UInt8).toNat from b1); exact this
                  subst hu'
                  refine dk_of ((dk_bind (dk_u1 hu)).trans ?_)
                  show (Decoder.lookupswitch pc : Decoder Instr) code (pc + 1) = _
                  unfold Decoder.lookupswitch
                  rw [dk_bind hp, dk_bind s1, dk_bind s2, if_pos hl]
                  dsimp only
                  refine (dk_bind s4).trans ?_
                  simp only [hi, if_true]
                  show Except.ok (_, _) = _
                  congr 2
                  omega
                · rw [if_neg hi] at e; cases e
            · rw [if_neg hl] at e; cases e
          · rw [if_neg b1] at e; cases e
def fq_b3 (c : ByteArray) (o M : Nat) (cl : List (Nat × List Nat)) : Nat → List Nat → List fk_E → Bool
  | _, _, [] => true
  | pc, rem, (p, cu, ins, len, x1, x2, x3) :: l => Nat.beq p pc && (match fq_enc ins with
      | some (bs, n) => Nat.beq n len && fq_pre bs rem
      | none => (match fq_ts p rem with | some q => decide (q.1 = ins) && Nat.beq q.2 len | none => false)) && (cl.lookup p == cu) && fq_r2 o M p ins x1 x2 x3 && fq_b3 c o M cl (pc + len) (rem.drop len) l
theorem fq_of3 {c : ByteArray} {o M : Nat} {cl : List (Nat × List Nat)} {bl : List Nat} (hc : fi_code M = c) (ho : fi_ow M = o) (hl : fj_cutT.getD M [] = cl) (hb : c.data.toList.map UInt8.toNat = bl) : ∀ {l : List fk_E} {pc : Nat}, fq_b3 c o M cl pc (bl.drop pc) l = true → fk_D M l
  | [], _, _ => trivial
  | (p, cu, ins, len, x1, x2, x3) :: l, pc, e => by
    unfold fq_b3 at e
    simp only [Bool.and_eq_true] at e
    obtain ⟨⟨⟨⟨e1, e2⟩, e3⟩, e4⟩, e5⟩ := e
    have hp := Nat.eq_of_beq_eq_true e1
    subst hp
    rw [List.drop_drop] at e5
    refine ⟨?_, ?_, fq_res_ok ho (fq_r2_ok e4), fq_of3 hc ho hl hb e5⟩
    · rw [hc]
      split at e2
      · rename_i bs n he
        rw [Bool.and_eq_true] at e2
        have hn := Nat.eq_of_beq_eq_true e2.1
        subst hn
        refine fq_ok he (fun j b q => ?_)
        have := fq_pre_ok e2.2 j b q
        rw [List.getElem?_drop] at this
        rw [hb]
        exact this
      · cases hq : fq_ts p (bl.drop p) with
        | none => rw [hq] at e2; cases e2
        | some q =>
          rw [hq] at e2
          simp only [Bool.and_eq_true, decide_eq_true_eq] at e2
          have h2 := Nat.eq_of_beq_eq_true e2.2
          obtain ⟨i, n⟩ := q
          simp only at e2 h2
          rw [← e2.1, ← h2]
          exact fq_ts_ok (show fq_dr c p (bl.drop p) from by unfold fq_dr; rw [hb]) hq
    · unfold fj_cut
      rw [hl]
      exact eq_of_beq e3
