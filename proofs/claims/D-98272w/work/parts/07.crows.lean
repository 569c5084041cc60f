/-! ===== rows of arrays, of new cells, of calls and returns ===== -/
set_option maxRecDepth 100000
theorem rep_st {g : gX} {G G' : gH} {H H' : Heap} {a t k : Nat} {v : lE} (hR : Rep g G H) (hG : isSt G G' a k v) (ha : 64 ≤ a) (h64 : 64 ≤ t) (ht : gT G a = t) (hkd : knd (gfty t k) v) (e1 : H'[gad g a]? = some ((arrV (xA g t) (gL G a) (gval g G t a)).setSlot k (lV g v))) (hz : H'.size = H.size) (ho : ∀ q, q ≠ gad g a → H'[q]? = H[q]?) : Rep g G' H' := by
  obtain ⟨i1, i2, i3, i4, i5, i6, i7⟩ := hG
  refine hR.upd ha (by omega) i1 i2 i3 i4 hz ho ?_ ⟨_, e1, rfl, rfl, by rw [arrV_store, arrV_size]⟩ (fun b hb t => i5 g b hb t) (fun h => absurd h (by omega)) (fun _ => ?_)
  · rw [e1, hR.arr ht h64]
    simp [Cell.setSlot]
  · rw [ht, e1, arrV_store]
    congr 2
    funext j
    by_cases hjk : j = k
    · subst hjk
      have := i7 g (gfty t j) ⟨rfl, hkd⟩
      simp only [updV, if_true]
      exact this.symm
    · have := i6 g j hjk (gfty t j)
      simp only [updV, if_neg hjk]
      exact this.symm
section RA
variable {K : kX} {own : String} {cc : ByteArray} {nL fr lo pc q : Nat} {G : gH} {L : List (Nat × lE)} {st : List lE}
theorem r_iaload {a : Nat} {i : Int32} (hK : kOk K own cc nL fr lo) (hd : decode cc pc = .ok (.iaload, 1)) (ht : gT G a = 64) (hi : vp_in i (gL G a)) (hq : pc + 1 = q) (kk : V K G q L (vi (gI G a i.toNatClampNeg) :: st)) : V K G pc L (vi i :: vr a :: st) := by
  obtain ⟨g, nL', n0, s0, p, l, e, R, s, m, args, below, meth, c, Q⟩ := K
  obtain ⟨rfl, hx, hb, -, hown, hts, ⟨hKk, -⟩, -⟩ := hK
  subst hq
  intro H locs ls h1 h2 h3
  have hlt : i.toNatClampNeg < gL G a := Nat.not_le.mp fun q => hi (Or.inr q)
  have e0 : lS g (vi i :: vr a :: st) = .int i :: .ref (gad g a) :: lS g st := by
    rw [lS_cons, lS_cons]
    show _ :: grf g a :: _ = _
    rw [grf_ne (h1.pos ht (by decide))]
    rfl
  rw [e0]
  exact W.iald (v := .int (gI G a i.toNatClampNeg)) hx hb (h1.arr ht (by decide)) ((hKk.2 0 _ rfl).1 (gL G a) _) (fun q => by cases q) (by rw [arrV_size]; exact hi) (by rw [arrV_read _ _ hlt]; rfl) rfl rfl hd (kk H locs ls h1 h2 h3)
theorem r_baload {a : Nat} {i : Int32} (hK : kOk K own cc nL fr lo) (hd : decode cc pc = .ok (.baload, 1)) (ht : gT G a = 65) (hi : vp_in i (gL G a)) (hq : pc + 1 = q) (kk : V K G q L (vi (gI G a i.toNatClampNeg) :: st)) : V K G pc L (vi i :: vr a :: st) := by
  obtain ⟨g, nL', n0, s0, p, l, e, R, s, m, args, below, meth, c, Q⟩ := K
  obtain ⟨rfl, hx, hb, -, hown, hts, ⟨hKk, -⟩, -⟩ := hK
  subst hq
  intro H locs ls h1 h2 h3
  have hlt : i.toNatClampNeg < gL G a := Nat.not_le.mp fun q => hi (Or.inr q)
  have e0 : lS g (vi i :: vr a :: st) = .int i :: .ref (gad g a) :: lS g st := by
    rw [lS_cons, lS_cons]
    show _ :: grf g a :: _ = _
    rw [grf_ne (h1.pos ht (by decide))]
    rfl
  rw [e0]
  exact W.bald (v := .int (gI G a i.toNatClampNeg)) hx hb (h1.arr ht (by decide)) ((hKk.2 1 _ rfl).1 (gL G a) _) (fun q => by cases q) (by rw [arrV_size]; exact hi) (by rw [arrV_read _ _ hlt]; rfl) rfl rfl hd (kk H locs ls h1 h2 h3)
theorem r_zaload {a : Nat} {i : Int32} (hK : kOk K own cc nL fr lo) (hd : decode cc pc = .ok (.baload, 1)) (ht : gT G a = 66) (hi : vp_in i (gL G a)) (hq : pc + 1 = q) (kk : V K G q L (vi (gI G a i.toNatClampNeg) :: st)) : V K G pc L (vi i :: vr a :: st) := by
  obtain ⟨g, nL', n0, s0, p, l, e, R, s, m, args, below, meth, c, Q⟩ := K
  obtain ⟨rfl, hx, hb, -, hown, hts, ⟨hKk, -⟩, -⟩ := hK
  subst hq
  intro H locs ls h1 h2 h3
  have hlt : i.toNatClampNeg < gL G a := Nat.not_le.mp fun q => hi (Or.inr q)
  have e0 : lS g (vi i :: vr a :: st) = .int i :: .ref (gad g a) :: lS g st := by
    rw [lS_cons, lS_cons]
    show _ :: grf g a :: _ = _
    rw [grf_ne (h1.pos ht (by decide))]
    rfl
  rw [e0]
  exact W.zald (v := .int (gI G a i.toNatClampNeg)) hx hb (h1.arr ht (by decide)) ((hKk.2 2 _ rfl).1 (gL G a) _) (fun q => by cases q) (by rw [arrV_size]; exact hi) (by rw [arrV_read _ _ hlt]; rfl) rfl rfl hd (kk H locs ls h1 h2 h3)
theorem r_laload {a : Nat} {i : Int32} (hK : kOk K own cc nL fr lo) (hd : decode cc pc = .ok (.laload, 1)) (ht : gT G a = 67) (hi : vp_in i (gL G a)) (hq : pc + 1 = q) (kk : V K G q L (vj (gJ G a i.toNatClampNeg) :: st)) : V K G pc L (vi i :: vr a :: st) := by
  obtain ⟨g, nL', n0, s0, p, l, e, R, s, m, args, below, meth, c, Q⟩ := K
  obtain ⟨rfl, hx, hb, -, hown, hts, ⟨hKk, -⟩, -⟩ := hK
  subst hq
  intro H locs ls h1 h2 h3
  have hlt : i.toNatClampNeg < gL G a := Nat.not_le.mp fun q => hi (Or.inr q)
  have e0 : lS g (vi i :: vr a :: st) = .int i :: .ref (gad g a) :: lS g st := by
    rw [lS_cons, lS_cons]
    show _ :: grf g a :: _ = _
    rw [grf_ne (h1.pos ht (by decide))]
    rfl
  rw [e0]
  exact W.lald (v := .long (gJ G a i.toNatClampNeg)) hx hb (h1.arr ht (by decide)) ((hKk.2 3 _ rfl).1 (gL G a) _) (fun q => by cases q) (by rw [arrV_size]; exact hi) (by rw [arrV_read _ _ hlt]; rfl) rfl rfl hd (kk H locs ls h1 h2 h3)
/-- the place of an array class in the list -/
theorem r_aaload {a t j : Nat} {i : Int32} (hK : kOk K own cc nL fr lo) (hd : decode cc pc = .ok (.aaload, 1)) (hj : ∀ g, (gtys g)[j]? = some (xA g t, gfty t 0)) (hrf : (gfty t 0).isReference = true) (hco : ∀ n, gfty t n = gfty t 0) (h64 : 64 ≤ t) (ht : gT G a = t) (hi : vp_in i (gL G a)) (hq : pc + 1 = q) (kk : V K G q L (vr (gR G a i.toNatClampNeg) :: st)) : V K G pc L (vi i :: vr a :: st) := by
  obtain ⟨g, nL', n0, s0, p, l, e, R, s, m, args, below, meth, c, Q⟩ := K
  obtain ⟨rfl, hx, hb, -, hown, hts, ⟨hKk, -⟩, -⟩ := hK
  subst hq
  intro H locs ls h1 h2 h3
  have hlt : i.toNatClampNeg < gL G a := Nat.not_le.mp fun q => hi (Or.inr q)
  have e0 : lS g (vi i :: vr a :: st) = .int i :: .ref (gad g a) :: lS g st := by
    rw [lS_cons, lS_cons]
    show _ :: grf g a :: _ = _
    rw [grf_ne (h1.pos ht (by omega))]
    rfl
  rw [e0]
  refine W.aald (v := grf g (gR G a i.toNatClampNeg)) (ty := gfty t 0) hx hb (h1.arr ht h64) ((hKk.2 j _ (hj g)).1 (gL G a) _) hrf (fun q => by cases q) (by rw [arrV_size]; exact hi) (by
    rw [arrV_read _ _ hlt]
    unfold gval gvt
    rw [hco]
    generalize gfty t 0 = ty at hrf
    cases ty <;> first | rfl | exact absurd hrf (by decide)) rfl rfl hd (kk H locs ls h1 h2 h3)
theorem r_alen {a t : Nat} {j : Nat} {ty : FieldType} (hK : kOk K own cc nL fr lo) (hd : decode cc pc = .ok (.arraylength, 1)) (hj : ∀ g, (gtys g)[j]? = some (xA g t, ty)) (h64 : 64 ≤ t) (ht : gT G a = t) (hq : pc + 1 = q) (kk : V K G q L (vi (Int32.ofNat (gL G a)) :: st)) : V K G pc L (vr a :: st) := by
  obtain ⟨g, nL', n0, s0, p, l, e, R, s, m, args, below, meth, c, Q⟩ := K
  obtain ⟨rfl, hx, hb, -, hown, hts, ⟨hKk, -⟩, -⟩ := hK
  subst hq
  intro H locs ls h1 h2 h3
  have e0 : lS g (vr a :: st) = .ref (gad g a) :: lS g st := by
    rw [lS_cons]
    show grf g a :: _ = _
    rw [grf_ne (h1.pos ht (by omega))]
  rw [e0]
  exact W.alen (n := Int32.ofNat (gL G a)) hx hb (h1.arr ht h64) ((hKk.2 j _ (hj g)).1 (gL G a) _) (by rw [arrV_size] <;> rfl) rfl rfl hd (kk H locs ls h1 h2 h3)
theorem r_iastore {a : Nat} {i x : Int32} (hK : kOk K own cc nL fr lo) (hd : decode cc pc = .ok (.iastore, 1)) (ht : gT G a = 64) (hi : vp_in i (gL G a)) (ha : 64 ≤ a) (hq : pc + 1 = q) (kk : V K (sI G a i.toNatClampNeg x) q L st) : V K G pc L (vi x :: vi i :: vr a :: st) := by
  obtain ⟨g, nL', n0, s0, p, l, e, R, s, m, args, below, meth, c, Q⟩ := K
  obtain ⟨rfl, hx, hb, -, hown, hts, ⟨hKk, -⟩, -⟩ := hK
  subst hq
  intro H locs ls h1 h2 h3
  have e0 : lS g (vi x :: vi i :: vr a :: st) = .int x :: .int i :: .ref (gad g a) :: lS g st := by
    rw [lS_cons, lS_cons, lS_cons]
    show _ :: _ :: grf g a :: _ = _
    rw [grf_ne (h1.pos ht (by decide))]
    rfl
  rw [e0]
  refine W.iast hx hb (h1.arr ht (by decide)) ((hKk.2 0 _ rfl).1 (gL G a) _) (fun q => by cases q) (by rw [arrV_size]; exact hi) rfl rfl hd fun H' e1 e2 e3 => ?_
  exact kk H' _ ls (rep_st h1 isSt_I ha (by decide) ht ⟨fun h => FieldType.noConfusion h, rfl⟩ e1 e2 e3) (locs_add (a := gad g a) h2 (by rw [gad_new ha]; exact Nat.le_add_right _ _)) h3
theorem r_bastore {a : Nat} {i x : Int32} (hK : kOk K own cc nL fr lo) (hd : decode cc pc = .ok (.bastore, 1)) (ht : gT G a = 65) (hi : vp_in i (gL G a)) (ha : 64 ≤ a) (hq : pc + 1 = q) (kk : V K (sI G a i.toNatClampNeg x.toInt8.toInt32) q L st) : V K G pc L (vi x :: vi i :: vr a :: st) := by
  obtain ⟨g, nL', n0, s0, p, l, e, R, s, m, args, below, meth, c, Q⟩ := K
  obtain ⟨rfl, hx, hb, -, hown, hts, ⟨hKk, -⟩, -⟩ := hK
  subst hq
  intro H locs ls h1 h2 h3
  have e0 : lS g (vi x :: vi i :: vr a :: st) = .int x :: .int i :: .ref (gad g a) :: lS g st := by
    rw [lS_cons, lS_cons, lS_cons]
    show _ :: _ :: grf g a :: _ = _
    rw [grf_ne (h1.pos ht (by decide))]
    rfl
  rw [e0]
  refine W.bast hx hb (h1.arr ht (by decide)) ((hKk.2 1 _ rfl).1 (gL G a) _) (fun q => by cases q) (by rw [arrV_size]; exact hi) rfl rfl hd fun H' e1 e2 e3 => ?_
  exact kk H' _ ls (rep_st (v := vi x.toInt8.toInt32) h1 isSt_I ha (by decide) ht ⟨fun h => FieldType.noConfusion h, rfl⟩ e1 e2 e3) (locs_add (a := gad g a) h2 (by rw [gad_new ha]; exact Nat.le_add_right _ _)) h3
theorem r_zastore {a : Nat} {i x : Int32} (hK : kOk K own cc nL fr lo) (hd : decode cc pc = .ok (.bastore, 1)) (ht : gT G a = 66) (hi : vp_in i (gL G a)) (ha : 64 ≤ a) (hq : pc + 1 = q) (kk : V K (sI G a i.toNatClampNeg (x &&& 1)) q L st) : V K G pc L (vi x :: vi i :: vr a :: st) := by
  obtain ⟨g, nL', n0, s0, p, l, e, R, s, m, args, below, meth, c, Q⟩ := K
  obtain ⟨rfl, hx, hb, -, hown, hts, ⟨hKk, -⟩, -⟩ := hK
  subst hq
  intro H locs ls h1 h2 h3
  have e0 : lS g (vi x :: vi i :: vr a :: st) = .int x :: .int i :: .ref (gad g a) :: lS g st := by
    rw [lS_cons, lS_cons, lS_cons]
    show _ :: _ :: grf g a :: _ = _
    rw [grf_ne (h1.pos ht (by decide))]
    rfl
  rw [e0]
  refine W.zast hx hb (h1.arr ht (by decide)) ((hKk.2 2 _ rfl).1 (gL G a) _) (fun q => by cases q) (by rw [arrV_size]; exact hi) rfl rfl hd fun H' e1 e2 e3 => ?_
  exact kk H' _ ls (rep_st (v := vi (x &&& 1)) h1 isSt_I ha (by decide) ht ⟨fun h => FieldType.noConfusion h, rfl⟩ e1 e2 e3) (locs_add (a := gad g a) h2 (by rw [gad_new ha]; exact Nat.le_add_right _ _)) h3
theorem r_lastore {a : Nat} {i : Int32} {x : Int64} (hK : kOk K own cc nL fr lo) (hd : decode cc pc = .ok (.lastore, 1)) (ht : gT G a = 67) (hi : vp_in i (gL G a)) (ha : 64 ≤ a) (hq : pc + 1 = q) (kk : V K (sJ G a i.toNatClampNeg x) q L st) : V K G pc L (vj x :: vi i :: vr a :: st) := by
  obtain ⟨g, nL', n0, s0, p, l, e, R, s, m, args, below, meth, c, Q⟩ := K
  obtain ⟨rfl, hx, hb, -, hown, hts, ⟨hKk, -⟩, -⟩ := hK
  subst hq
  intro H locs ls h1 h2 h3
  have e0 : lS g (vj x :: vi i :: vr a :: st) = .long x :: .int i :: .ref (gad g a) :: lS g st := by
    rw [lS_cons, lS_cons, lS_cons]
    show _ :: _ :: grf g a :: _ = _
    rw [grf_ne (h1.pos ht (by decide))]
    rfl
  rw [e0]
  refine W.last hx hb (h1.arr ht (by decide)) ((hKk.2 3 _ rfl).1 (gL G a) _) (fun q => by cases q) (by rw [arrV_size]; exact hi) rfl rfl hd fun H' e1 e2 e3 => ?_
  exact kk H' _ ls (rep_st h1 isSt_J ha (by decide) ht rfl e1 e2 e3) (locs_add (a := gad g a) h2 (by rw [gad_new ha]; exact Nat.le_add_right _ _)) h3
theorem r_lcmp {x y : Int64} (hK : kOk K own cc nL fr lo) (hd : decode cc pc = .ok (.lcmp, 1)) (hq : pc + 1 = q) (k : V K G q L (vi (lg_cmp x y) :: st)) : V K G pc L (vj y :: vj x :: st) := by
  obtain ⟨g, nL', n0, s0, p, l, e, R, s, m, args, below, meth, c, Q⟩ := K
  obtain ⟨rfl, hx, hb, -⟩ := hK
  subst hq
  exact fun H locs ls h1 h2 h3 => W.lcmp hx hb hd (k H locs ls h1 h2 h3)
/-- the types that the abstract heap knows -/
def okty : FieldType → Bool
  | .float => false
  | .double => false
  | _ => true
theorem gvt_new {g : gX} {t n : Nat} {ty : FieldType} (h : okty ty = true) (k : Nat) : gvt g (nW G t n) ty (gN G) k = defaultValue ty := by
  have hI : gI (nW G t n) (gN G) k = 0 := if_pos rfl
  have hJ : gJ (nW G t n) (gN G) k = 0 := if_pos rfl
  have hR : gR (nW G t n) (gN G) k = 0 := if_pos rfl
  unfold gvt
  cases ty <;> first | exact absurd h (by decide) | (rw [hI]; rfl) | (rw [hJ]; rfl) | (rw [hR]; exact grf_0)
end RA
