/-! ===== rows of fields and arrays over the abstract heap ===== -/
set_option maxRecDepth 100000
theorem gI_sI {G : gH} {a k x y : Nat} {v : Int32} : gI (sI G a k v) x y = if x = a ∧ y = k then v else gI G x y := rfl
theorem gJ_sJ {G : gH} {a k x y : Nat} {v : Int64} : gJ (sJ G a k v) x y = if x = a ∧ y = k then v else gJ G x y := rfl
theorem gR_sR {G : gH} {a k x y : Nat} {v : Nat} : gR (sR G a k v) x y = if x = a ∧ y = k then v else gR G x y := rfl
theorem gI_ne {G : gH} {a k x y : Nat} {v : Int32} (h : ¬ (x = a ∧ y = k)) : gI (sI G a k v) x y = gI G x y := if_neg h
theorem gJ_ne {G : gH} {a k x y : Nat} {v : Int64} (h : ¬ (x = a ∧ y = k)) : gJ (sJ G a k v) x y = gJ G x y := if_neg h
theorem gR_ne {G : gH} {a k x y : Nat} {v : Nat} (h : ¬ (x = a ∧ y = k)) : gR (sR G a k v) x y = gR G x y := if_neg h
theorem grf_ok {g : gX} {b : Nat} {ty : FieldType} (h : ty.isReference = true) : narrow ty (grf g b) = grf g b ∧ fits ty (grf g b) = true := by
  unfold grf
  cases ty <;> first | (split <;> exact ⟨rfl, rfl⟩) | (exact absurd h (by decide))
/-- an object's cell -/
theorem Rep.obj {g : gX} {G : gH} {H : Heap} (hR : Rep g G H) {a t : Nat} (ht : gT G a = t) (h0 : 0 < t) (h64 : t < 64) : t_OB (gad g a) (xC g t) (gnf t) (xI g t) H (gval g G t a) := hR.2.2.2.2.2.2.1 a t ht h0 h64
theorem Rep.arr {g : gX} {G : gH} {H : Heap} (hR : Rep g G H) {a t : Nat} (ht : gT G a = t) (h64 : 64 ≤ t) : H[gad g a]? = some (arrV (xA g t) (gL G a) (gval g G t a)) := hR.2.2.2.2.2.2.2.1 a t ht h64
theorem Rep.pos {g : gX} {G : gH} {H : Heap} (hR : Rep g G H) {a t : Nat} (ht : gT G a = t) (h0 : 0 < t) : a ≠ 0 := by
  have := hR.2.2.2.2.1 a (by omega)
  omega
theorem locs_add {b : Nat} {locs : List Loc} {a i : Nat} (h : ∀ q ∈ locs, b ≤ q.base) (ha : b ≤ a) : ∀ q ∈ locs ++ [(⟨a, i⟩ : Loc)], b ≤ q.base := by
  intro q hq
  rcases List.mem_append.mp hq with h1 | h1
  · exact h q h1
  · rw [List.mem_singleton.mp h1]
    exact ha
section RH
variable {K : kX} {own : String} {cc : ByteArray} {nL fr lo pc q : Nat} {G : gH} {L : List (Nat × lE)} {st : List lE}
theorem r_get {idx t k a N : Nat} {C ref : String} {T : u_T} {v : lE} (hK : kOk K own cc nL fr lo) (hd : decode cc pc = .ok (.getfield idx, 3)) (hc : gcl[t]? = some (C, T, N)) (hin : ∀ w ∈ u_ws C T N, w ∈ lw_all) (hk : k < N) (hlink : Cond.fieldLink own idx ref (T k).2.1 (T k).2.2.1 ∈ lw_all)
    (hsame : ∀ (s : State) (args : Array Value), (∀ w ∈ lw_all, w.before args s = true) → ∀ x, s.fieldFound? (T k).1 (T k).2.1 (T k).2.2.1 = some x → s.fieldFound? ref (T k).2.1 (T k).2.2.1 = some x) (h0 : 0 < t) (h64 : t < 64) (ht : gT G a = t) (hv : ∀ g, gval g G t a k = lV g v) (hq : pc + 3 = q)
    (kk : V K G q L (v :: st)) : V K G pc L (vr a :: st) := by
  obtain ⟨g, nL', n0, s0, p, l, e, R, s, m, args, below, meth, c, Q⟩ := K
  obtain ⟨rfl, hx, hb, -, hown, hts, ⟨hKk, -⟩, -⟩ := hK
  subst hq
  intro H locs ls h1 h2 h3
  obtain ⟨cell, q1, q2, q3, q4⟩ := h1.obj ht h0 h64
  obtain ⟨hS, hfc, kC, hkC, hkind⟩ := hKk.1 t _ hc
  obtain ⟨cf, kf, fi, f, hi, hsl⟩ := hS k hk
  have hg : gnf t = N := by simp [gnf, hc]
  have e0 : lS g (vr a :: st) = .ref (gad g a) :: lS g st := by
    rw [lS_cons]
    show grf g a :: _ = _
    rw [grf_ne (h1.pos ht h0)]
  rw [e0]
  refine W.getf hx hb hown (hts _ hlink) (hsame s args hts _ hi) (u_facts hfc hkC (u_lays hts hin hk) hi).1 q1 (by rw [q3]; exact fun h => by cases h) (v := lV g v) ?_ rfl rfl hd (kk H locs ls h1 h2 h3)
  rw [hsl, q4 k (by rw [hg]; exact hk), hv]
theorem r_getN {idx t k a N : Nat} {C ref host : String} {T : u_T} {v : lE} (hK : kOk K own cc nL fr lo) (hd : decode cc pc = .ok (.getfield idx, 3)) (hc : gcl[t]? = some (C, T, N)) (hin : ∀ w ∈ u_ws C T N, w ∈ lw_all) (hk : k < N) (hlink : Cond.fieldLinkNest own idx ref (T k).2.1 (T k).2.2.1 host ∈ lw_tbl)
    (hsame : (T k).1 = ref) (h0 : 0 < t) (h64 : t < 64) (ht : gT G a = t) (hv : ∀ g, gval g G t a k = lV g v) (hq : pc + 3 = q)
    (kk : V K G q L (v :: st)) : V K G pc L (vr a :: st) := by
  obtain ⟨g, nL', n0, s0, p, l, e, R, s, m, args, below, meth, c, Q⟩ := K
  obtain ⟨rfl, hx, hb, -, hown, hts, ⟨hKk, hNx, -⟩, -⟩ := hK
  subst hq
  subst hsame
  intro H locs ls h1 h2 h3
  obtain ⟨cell, q1, q2, q3, q4⟩ := h1.obj ht h0 h64
  obtain ⟨hS, hfc, kC, hkC, hkind⟩ := hKk.1 t _ hc
  obtain ⟨cf, kf, fi, f, hi, hsl⟩ := hS k hk
  have hg : gnf t = N := by simp [gnf, hc]
  have e0 : lS g (vr a :: st) = .ref (gad g a) :: lS g st := by
    rw [lS_cons]
    show grf g a :: _ = _
    rw [grf_ne (h1.pos ht h0)]
  rw [e0]
  refine va_Wgetf hx hb hown (va_Nw.use rfl (hNx _ hlink rfl)) hi (u_facts hfc hkC (u_lays hts hin hk) hi).1 q1 (by rw [q3]; exact fun h => by cases h) (v := lV g v) ?_ rfl rfl hd (kk H locs ls h1 h2 h3)
  rw [hsl, q4 k (by rw [hg]; exact hk), hv]
/-- what a store of v into place k of the cell a makes of the abstract heap -/
def isSt (G G' : gH) (a k : Nat) (v : lE) : Prop := gN G' = gN G ∧ gS G' = gS G ∧ gT G' = gT G ∧ gL G' = gL G ∧ (∀ (g : gX) (b : Nat), b ≠ a → ∀ t, gval g G' t b = gval g G t b) ∧
  (∀ (g : gX) (j : Nat), j ≠ k → ∀ ty, gvt g G' ty a j = gvt g G ty a j) ∧ ∀ (g : gX) (ty : FieldType), gvt g G ty a k = gvt g G ty a k ∧ (match v with | .inl _ => ty ≠ .long ∧ ty.isReference = false | .inr (.inl _) => ty = .long | .inr (.inr _) => ty.isReference = true) → gvt g G' ty a k = lV g v
theorem isSt_I {G : gH} {a k : Nat} {v : Int32} : isSt G (sI G a k v) a k (vi v) := by
  refine ⟨rfl, rfl, rfl, rfl, fun g b hb t => gval_of (G := G) (G' := sI G a k v) (fun j => gI_ne (fun h => hb h.1)) (fun _ => rfl) (fun _ => rfl) t, fun g j hj ty => ?_, fun g ty h => ?_⟩
  · have h1 : gI (sI G a k v) a j = gI G a j := if_neg (fun h => hj h.2)
    unfold gvt
    cases ty <;> first | rfl | simp [h1]
  · have h1 : gI (sI G a k v) a k = v := if_pos ⟨rfl, rfl⟩
    unfold gvt
    cases ty <;> first | exact absurd rfl h.2.1 | exact absurd h.2.2 (by decide) | (show Value.int _ = _; rw [h1]; rfl) | simp [FieldType.isReference] at h
theorem isSt_J {G : gH} {a k : Nat} {v : Int64} : isSt G (sJ G a k v) a k (vj v) := by
  refine ⟨rfl, rfl, rfl, rfl, fun g b hb t => gval_of (G := G) (G' := sJ G a k v) (fun _ => rfl) (fun j => gJ_ne (fun h => hb h.1)) (fun _ => rfl) t, fun g j hj ty => ?_, fun g ty h => ?_⟩
  · have h1 : gJ (sJ G a k v) a j = gJ G a j := if_neg (fun h => hj h.2)
    unfold gvt
    cases ty <;> first | rfl | simp [h1]
  · have h1 : gJ (sJ G a k v) a k = v := if_pos ⟨rfl, rfl⟩
    have h2 : ty = .long := h.2
    subst h2
    show Value.long _ = _
    rw [h1]
    rfl
theorem isSt_R {G : gH} {a k : Nat} {v : Nat} : isSt G (sR G a k v) a k (vr v) := by
  refine ⟨rfl, rfl, rfl, rfl, fun g b hb t => gval_of (G := G) (G' := sR G a k v) (fun _ => rfl) (fun _ => rfl) (fun j => gR_ne (fun h => hb h.1)) t, fun g j hj ty => ?_, fun g ty h => ?_⟩
  · have h1 : gR (sR G a k v) a j = gR G a j := if_neg (fun h => hj h.2)
    unfold gvt
    cases ty <;> first | rfl | simp [h1]
  · have h1 : gR (sR G a k v) a k = v := if_pos ⟨rfl, rfl⟩
    have h2 : ty.isReference = true := h.2
    unfold gvt
    cases ty <;> first | exact absurd h2 (by decide) | (show grf g _ = _; rw [h1]; rfl)
/-- of which kind a place is -/
def knd (ty : FieldType) (v : lE) : Prop := match v with
  | .inl _ => ty ≠ .long ∧ ty.isReference = false
  | .inr (.inl _) => ty = .long
  | .inr (.inr _) => ty.isReference = true
/-- v may stand there -/
def fitv (ty : FieldType) (v : lE) : Prop := ∀ g, narrow ty (lV g v) = lV g v ∧ fits ty (lV g v) = true
theorem fitv_r {ty : FieldType} {b : Nat} (h : ty.isReference = true) : fitv ty (vr b) := fun _ => grf_ok h
theorem fitv_i {x : Int32} : fitv .int (vi x) := fun _ => ⟨rfl, rfl⟩
theorem fitv_j {x : Int64} : fitv .long (vj x) := fun _ => ⟨rfl, rfl⟩
theorem rep_put {g : gX} {G' : gH} {H H' : Heap} {a t k i N : Nat} {v : lE} {cell : Cell} {C : String} {T : u_T} (hR : Rep g G H) (hG : isSt G G' a k v) (ha : 64 ≤ a) (hc : gcl[t]? = some (C, T, N)) (hk : k < N) (h0 : 0 < t) (h64 : t < 64) (ht : gT G a = t) (hkd : knd (gfty t k) v) (hap : ∀ x y, x < N → y < N → x ≠ y → xI g t x ≠ xI g t y)
    (q1 : H[gad g a]? = some cell) (q2 : cell.cls = xC g t) (q3 : cell.vm = .none) (q4 : ∀ j, j < N → cell.slots[xI g t j]? = some (gval g G t a j)) (hi : xI g t k = i) (e1 : H'[gad g a]? = some (cell.setSlot i (lV g v))) (hz : H'.size = H.size) (ho : ∀ q, q ≠ gad g a → H'[q]? = H[q]?) : Rep g G' H' := by
  obtain ⟨i1, i2, i3, i4, i5, i6, i7⟩ := hG
  subst hi
  have hg : gnf t = N := by simp [gnf, hc]
  refine hR.upd ha (by omega) i1 i2 i3 i4 hz ho ?_ ?_ (fun b hb t => i5 g b hb t) (fun _ => ?_) (fun h => absurd h (by omega))
  · rw [e1, q1]
    simp [Cell.setSlot]
  · obtain ⟨c0, m1, m2⟩ := hR.2.2.2.2.2.2.2.2.2.2 a ha (by omega)
    cases q1.symm.trans m1
    exact ⟨_, e1, m2.1, m2.2.1, by rw [← m2.2.2]; simp [Cell.setSlot]⟩
  · rw [ht]
    refine ⟨_, e1, q2, q3, ?_⟩
    rw [hg]
    intro j hj
    have h4 := t_set q4 hap hk (lV g v) j hj
    rw [h4]
    by_cases hjk : j = k
    · subst hjk
      have := i7 g (gfty t j) ⟨rfl, hkd⟩
      simp only [updV, if_true]
      exact congrArg some this.symm
    · have := i6 g j hjk (gfty t j)
      simp only [updV, if_neg hjk]
      exact congrArg some this.symm
theorem r_put {idx t k a N : Nat} {C ref : String} {T : u_T} {ty0 : Nat → FieldType} {v : lE} {G' : gH} {ty : FieldType} (hK : kOk K own cc nL fr lo) (hd : decode cc pc = .ok (.putfield idx, 3)) (hc : gcl[t]? = some (C, T, N)) (hin : ∀ w ∈ u_ws C T N, w ∈ lw_all) (hty : ∀ k, k < N → parseFieldDescriptor (T k).2.2.1 = some (ty0 k)) (hnm : ∀ a, a < N → ∀ b, b < N → a ≠ b → (T a).2.1 ≠ (T b).2.1)
    (hk : k < N) (hlink : Cond.fieldLink own idx ref (T k).2.1 (T k).2.2.1 ∈ lw_all) (hsame : ∀ (s : State) (args : Array Value), (∀ w ∈ lw_all, w.before args s = true) → ∀ x, s.fieldFound? (T k).1 (T k).2.1 (T k).2.2.1 = some x → s.fieldFound? ref (T k).2.1 (T k).2.2.1 = some x)
    (hfin : (T k).2.2.2 = false) (htk : ty0 k = ty) (htg : gfty t k = ty) (h0 : 0 < t) (h64 : t < 64) (ht : gT G a = t) (ha : 64 ≤ a) (hG : isSt G G' a k v) (hkd : knd ty v) (hf : fitv ty v) (hq : pc + 3 = q)
    (kk : V K G' q L st) : V K G pc L (v :: vr a :: st) := by
  obtain ⟨g, nL', n0, s0, p, l, e, R, s, m, args, below, meth, c, Q⟩ := K
  obtain ⟨rfl, hx, hb, -, hown, hts, ⟨hKk, -⟩, -⟩ := hK
  subst hq
  subst htg
  intro H locs ls h1 h2 h3
  have hg : gnf t = N := by simp [gnf, hc]
  have hap := va_apart (own := own) hts hin ty0 hty hnm hKk hc
  obtain ⟨cell, q1, q2, q3, q4⟩ := h1.obj ht h0 h64
  rw [hg] at q4
  obtain ⟨hS, hfc, kC, hkC, hkind⟩ := hKk.1 t _ hc
  obtain ⟨cf, kf, fi, f, hi, hsl⟩ := hS k hk
  have hlay := hts _ (hin _ (u_in_lay hk))
  unfold u_lay at hlay
  rw [if_neg (by rw [hfin]; decide)] at hlay
  have hst := (u_facts hfc hkC (u_lays hts hin hk) hi).1
  have h6 := u_store hfc hkC hkind hlay hi (by rw [← htk]; exact hty k hk) (hf g).1 (hf g).2
  have e0 : lS g (v :: vr a :: st) = lV g v :: .ref (gad g a) :: lS g st := by
    rw [lS_cons, lS_cons]
    show _ :: grf g a :: _ = _
    rw [grf_ne (h1.pos ht h0)]
  rw [e0]
  refine W.putK hx hb (f := f) ⟨hown, hts _ hlink, ⟨_, _, _, hsame s args hts _ hi⟩, hst⟩ (by rw [q2]; exact h6) q1 q3 (by rw [hsl]; exact k2_hasslot (q4 k hk)) rfl rfl hd fun H' e1 e2 e3 => ?_
  have hR' := rep_put h1 hG ha hc hk h0 h64 ht hkd hap q1 q2 q3 q4 hsl.symm e1 e2 e3
  have hN : gN G' = gN G := hG.1
  have hS' : gS G' = gS G := hG.2.1
  have k9 := kk H' _ ls hR' (locs_add (a := gad g a) (i := f.slot) h2 (by rw [gad_new ha]; exact Nat.le_add_right _ _)) h3
  rw [hN, hS'] at k9
  exact k9
theorem r_putF {idx t k a N : Nat} {C ref : String} {T : u_T} {ty0 : Nat → FieldType} {v : lE} {G' : gH} {ty : FieldType} (hK : kOk K own cc nL fr lo) (hd : decode cc pc = .ok (.putfield idx, 3)) (hc : gcl[t]? = some (C, T, N)) (hin : ∀ w ∈ u_ws C T N, w ∈ lw_all) (hty : ∀ k, k < N → parseFieldDescriptor (T k).2.2.1 = some (ty0 k)) (hnm : ∀ a, a < N → ∀ b, b < N → a ≠ b → (T a).2.1 ≠ (T b).2.1)
    (hk : k < N) (hlink : Cond.fieldLink own idx ref (T k).2.1 (T k).2.2.1 ∈ lw_all) (hsame : ∀ (s : State) (args : Array Value), (∀ w ∈ lw_all, w.before args s = true) → ∀ x, s.fieldFound? (T k).1 (T k).2.1 (T k).2.2.1 = some x → s.fieldFound? ref (T k).2.1 (T k).2.2.1 = some x)
    (hfin : (T k).2.2.2 = true) (hin2 : K.2.2.2.2.2.2.2.2.2.2.2.2.1.name = "<init>") (hdecl : (T k).1 = own) (htk : ty0 k = ty) (htg : gfty t k = ty) (h0 : 0 < t) (h64 : t < 64) (ht : gT G a = t) (ha : 64 ≤ a) (hG : isSt G G' a k v) (hkd : knd ty v) (hf : fitv ty v) (hq : pc + 3 = q)
    (kk : V K G' q L st) : V K G pc L (v :: vr a :: st) := by
  obtain ⟨g, nL', n0, s0, p, l, e, R, s, m, args, below, meth, c, Q⟩ := K
  obtain ⟨rfl, hx, hb, -, hown, hts, ⟨hKk, -⟩, -⟩ := hK
  subst hq
  subst htg
  intro H locs ls h1 h2 h3
  have hg : gnf t = N := by simp [gnf, hc]
  have hap := va_apart (own := own) hts hin ty0 hty hnm hKk hc
  obtain ⟨cell, q1, q2, q3, q4⟩ := h1.obj ht h0 h64
  rw [hg] at q4
  obtain ⟨hS, hfc, kC, hkC, hkind⟩ := hKk.1 t _ hc
  obtain ⟨cf, kf, fi, f, hi, hsl⟩ := hS k hk
  have hlay := hts _ (hin _ (u_in_lay hk))
  unfold u_lay at hlay
  rw [if_pos hfin] at hlay
  have hst := (u_facts hfc hkC (u_lays hts hin hk) hi).1
  have hcf : m.cls = cf := by
    obtain ⟨_, _, c', _, _, _, -, -, hf', -, -, -, hown2, -⟩ := Cond.laysFinal_spec hlay
    have e1 : c' = cf := by have := hi.symm.trans hf'; simp at this; exact this.1.symm
    rw [hdecl] at hown2
    rw [← e1]; exact Option.some.inj (hown.symm.trans hown2)
  have h6 := u_fits hfc hkC hkind (Or.inr hlay) hi (by rw [← htk]; exact hty k hk) (hf g).1 (hf g).2
  have e0 : lS g (v :: vr a :: st) = lV g v :: .ref (gad g a) :: lS g st := by
    rw [lS_cons, lS_cons]
    show _ :: grf g a :: _ = _
    rw [grf_ne (h1.pos ht h0)]
  rw [e0]
  refine W.putFinK hx hb hown (hts _ hlink) (hsame s args hts _ hi) hst hcf hin2 (by rw [q2]; exact h6) q1 q3 (by rw [hsl]; exact k2_hasslot (q4 k hk)) rfl rfl hd fun H' e1 e2 e3 => ?_
  have hR' := rep_put h1 hG ha hc hk h0 h64 ht hkd hap q1 q2 q3 q4 hsl.symm e1 e2 e3
  have hN : gN G' = gN G := hG.1
  have hS' : gS G' = gS G := hG.2.1
  have k9 := kk H' _ ls hR' (locs_add (a := gad g a) (i := f.slot) h2 (by rw [gad_new ha]; exact Nat.le_add_right _ _)) h3
  rw [hN, hS'] at k9
  exact k9
theorem r_putN {idx t k a N : Nat} {C ref host : String} {T : u_T} {ty0 : Nat → FieldType} {v : lE} {G' : gH} {ty : FieldType} (hK : kOk K own cc nL fr lo) (hd : decode cc pc = .ok (.putfield idx, 3)) (hc : gcl[t]? = some (C, T, N)) (hin : ∀ w ∈ u_ws C T N, w ∈ lw_all) (hty : ∀ k, k < N → parseFieldDescriptor (T k).2.2.1 = some (ty0 k)) (hnm : ∀ a, a < N → ∀ b, b < N → a ≠ b → (T a).2.1 ≠ (T b).2.1)
    (hk : k < N) (hlink : Cond.fieldLinkNest own idx ref (T k).2.1 (T k).2.2.1 host ∈ lw_tbl) (hsame : (T k).1 = ref)
    (hfin : (T k).2.2.2 = false) (htk : ty0 k = ty) (htg : gfty t k = ty) (h0 : 0 < t) (h64 : t < 64) (ht : gT G a = t) (ha : 64 ≤ a) (hG : isSt G G' a k v) (hkd : knd ty v) (hf : fitv ty v) (hq : pc + 3 = q)
    (kk : V K G' q L st) : V K G pc L (v :: vr a :: st) := by
  obtain ⟨g, nL', n0, s0, p, l, e, R, s, m, args, below, meth, c, Q⟩ := K
  obtain ⟨rfl, hx, hb, -, hown, hts, ⟨hKk, hNx, -⟩, -⟩ := hK
  subst hq
  subst htg
  subst hsame
  intro H locs ls h1 h2 h3
  have hg : gnf t = N := by simp [gnf, hc]
  have hap := va_apart (own := own) hts hin ty0 hty hnm hKk hc
  obtain ⟨cell, q1, q2, q3, q4⟩ := h1.obj ht h0 h64
  rw [hg] at q4
  obtain ⟨hS, hfc, kC, hkC, hkind⟩ := hKk.1 t _ hc
  obtain ⟨cf, kf, fi, f, hi, hsl⟩ := hS k hk
  have hlay := hts _ (hin _ (u_in_lay hk))
  unfold u_lay at hlay
  rw [if_neg (by rw [hfin]; decide)] at hlay
  have hst := (u_facts hfc hkC (u_lays hts hin hk) hi).1
  have h6 := u_store hfc hkC hkind hlay hi (by rw [← htk]; exact hty k hk) (hf g).1 (hf g).2
  have e0 : lS g (v :: vr a :: st) = lV g v :: .ref (gad g a) :: lS g st := by
    rw [lS_cons, lS_cons]
    show _ :: grf g a :: _ = _
    rw [grf_ne (h1.pos ht h0)]
  rw [e0]
  refine va_WputK hx hb (f := f) hown (va_Nw.use rfl (hNx _ hlink rfl)) hi hst (by rw [q2]; exact h6) q1 q3 (by rw [hsl]; exact k2_hasslot (q4 k hk)) rfl rfl hd fun H' e1 e2 e3 => ?_
  have hR' := rep_put h1 hG ha hc hk h0 h64 ht hkd hap q1 q2 q3 q4 hsl.symm e1 e2 e3
  have hN : gN G' = gN G := hG.1
  have hS' : gS G' = gS G := hG.2.1
  have k9 := kk H' _ ls hR' (locs_add (a := gad g a) (i := f.slot) h2 (by rw [gad_new ha]; exact Nat.le_add_right _ _)) h3
  rw [hN, hS'] at k9
  exact k9
end RH
