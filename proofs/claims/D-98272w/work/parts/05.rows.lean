/-! ===== the judgement V, over the abstract heap ===== -/
set_option maxRecDepth 100000
/-- an entry of the locals and of the stack: an int, a long, a reference -/
abbrev lE : Type := Int32 ⊕ Int64 ⊕ Nat
abbrev vi (x : Int32) : lE := Sum.inl x
abbrev vj (x : Int64) : lE := Sum.inr (Sum.inl x)
abbrev vr (a : Nat) : lE := Sum.inr (Sum.inr a)
def lV (g : gX) (e : lE) : Value := match e with
  | .inl x => .int x
  | .inr (.inl x) => .long x
  | .inr (.inr a) => grf g a
def lL (g : gX) (L : List (Nat × lE)) : List (Nat × Value) := L.map fun q => (q.1, lV g q.2)
def lS (g : gX) (st : List lE) : List Value := st.map (lV g)
/-- words of the tables that do not ride in the lists of words -/
def nxw : Cond → Bool
  | .fieldLinkNest .. => true
  | .methodLinkNest .. => true
  | .castable .. => true
  | .declares .. => true
  | _ => false
def Nx (U : State) : Prop := ∀ w ∈ lw_tbl, nxw w = true → va_Nw w U
def Ax (U : State) : Prop := va_AO "java/lang/Object" U ∧ va_AO "WellPromises$Stay" U ∧ va_AO "WellPromises$Image" U
/-- what is known of the tables at a state -/
def Cx (g : gX) (U : State) : Prop := va_K (xC g, xI g) gcl (gtys g) U ∧ Nx U ∧ Ax U ∧ xX g U ∧ ∀ u U' : State, (u.WarmedH U'.vm ∨ u.vm = U'.vm) → xX g u → xX g U'
theorem Nx.warm {s U : State} (hW : s.WarmedH U.vm) (h : Nx s) : Nx U := by
  intro w hw hn
  have h1 := h w hw hn
  cases w <;> first | exact va_Nw.warmF hW h1 | exact va_Nw.warmM hW h1 | exact va_Nw.warmC hW h1 | exact va_Nw.warmD hW h1 | exact absurd hn (by simp [nxw])
theorem Nx.same {s U : State} (hv : s.vm = U.vm) (h : Nx s) : Nx U := by
  intro w hw hn
  have h1 := h w hw hn
  cases w <;> first | exact va_Nw.same rfl hv h1 | exact absurd hn (by simp [nxw])
theorem Cx.warm {g : gX} {s U : State} (hW : s.WarmedH U.vm) (h : Cx g s) : Cx g U := by
  obtain ⟨h1, h2, h3, h4, h5⟩ := h
  exact ⟨va_K.moved hW.alike h1, h2.warm hW, ⟨h3.1.moved hW.alike, h3.2.1.moved hW.alike, h3.2.2.moved hW.alike⟩, h5 _ _ (Or.inl hW) h4, h5⟩
theorem Cx.same {g : gX} {s U : State} (hv : s.vm = U.vm) (h : Cx g s) : Cx g U := by
  obtain ⟨h1, h2, h3, h4, h5⟩ := h
  have ha : s.vm.Alike U.vm := by rw [hv]; exact Vm.Alike.refl U.vm
  exact ⟨va_K.moved ha h1, h2.same hv, ⟨h3.1.moved ha, h3.2.1.moved ha, h3.2.2.moved ha⟩, h5 _ _ (Or.inr hv) h4, h5⟩
abbrev kX : Type := gX × Nat × Nat × Nat × Program × Launch × Env × Room × State × MethodId × Array Value × List Frame × Method × Code × (State → Prop)
def V (K : kX) (G : gH) (pc : Nat) (L : List (Nat × lE)) (st : List lE) : Prop := match K with
  | (g, nL, n0, s0, p, l, e, R, s, m, args, below, meth, c, Q) =>
    ∀ (H : Heap) (locs : List Loc) (ls : Array Slot), Rep g G H → (∀ q ∈ locs, (xH g).size ≤ q.base) → lv_has ls nL (lL g L) → W p l e R s m args below meth c H locs (gN G - n0) (gS G - s0) Q (F0 m pc ls (lS g st))
/-- the method's own facts: its class, code, locals; its room -/
def kOk (K : kX) (own : String) (cc : ByteArray) (nL fr lo : Nat) : Prop := match K with
  | (g, nL', n0, s0, p, _, _, R, s, m, args, _, meth, c, _) =>
    nL' = nL ∧ p.tables.exec = Jvm.exec ∧ c.code = cc ∧ c.maxLocals = nL ∧ s.vm.findClass own = some m.cls ∧ (∀ w ∈ lw_all, w.before args s = true) ∧ Cx g s ∧ meth.locks = false ∧
    R.frames = fr ∧ R.locals = lo ∧ R.cells = LIMC - n0 ∧ R.slots = LIMS - s0 ∧ ∃ G0, gN G0 = n0 ∧ gS G0 = s0 ∧ Rep g G0 s.heap
section VK
variable {g : gX} {n0 s0 nL : Nat} {p : Program} {l : Launch} {e : Env} {R : Room} {s : State} {m : MethodId} {args : Array Value} {below : List Frame} {meth : Method} {c : Code} {Q : State → Prop}
/-- how far the heap has grown -/
theorem st_grown {G0 G : gH} {T : State} {locs : List Loc} {cells slots : Nat} (h0 : Rep g G0 s.heap) (hR : Rep g G T.heap) (X : Stand p l e R s m args below meth c T locs cells slots) : gN G0 ≤ gN G ∧ gS G0 ≤ gS G ∧ Stand p l e R s m args below meth c T locs (gN G - gN G0) (gS G - gS G0) := by
  obtain ⟨e1, e2, e3, e4, e5, e6⟩ := X.same
  have hh : (T.setVm s.vm).heap = T.heap := rfl
  rw [hh] at e2 e3 e4 e5 e6
  have a1 := h0.1
  have a2 := h0.2.1
  have b1 := hR.1
  have b2 := hR.2.1
  have hsp : ssum (xH g).size T.heap = ssum (xH g).size s.heap + ssum s.heap.size T.heap := ssum_split (by omega) rfl e2 (fun a c h => by
    obtain ⟨c', q1, -, q3, -⟩ := e6 a c h
    exact ⟨c', q1, q3⟩)
  rw [hR.2.2.2.1, h0.2.2.2.1] at hsp
  refine ⟨by omega, by omega, { X with same := ⟨e1, by rw [hh]; exact e2, by rw [hh]; omega, by rw [hh]; exact e4, ?_, by rw [hh]; exact e6⟩ }⟩
  show ssum s.heap.size T.heap ≤ _
  omega
theorem w_fit {G0 G : gH} {H : Heap} {locs : List Loc} {cells slots : Nat} {f : JFrame} (h0 : Rep g G0 s.heap) (hR : Rep g G H) (k : W p l e R s m args below meth c H locs (gN G - gN G0) (gS G - gS G0) Q f) : W p l e R s m args below meth c H locs cells slots Q f := by
  intro T hT X
  exact k T hT (st_grown h0 (by rw [hT]; exact hR) X).2.2
end VK
theorem lS_cons {g : gX} {v : lE} {st : List lE} : lS g (v :: st) = lV g v :: lS g st := rfl
theorem lL_at {g : gX} {ls : Array Slot} {nL : Nat} {L : List (Nat × lE)} (h : lv_has ls nL (lL g L)) (k : Nat) {i : Nat} {v : lE} (hk : L[k]? = some (i, v)) : ls[i]? = some (.val (lV g v)) := lv_at h k (by unfold lL; rw [List.getElem?_map, hk]; rfl)
theorem lL_sub {g : gX} {ls : Array Slot} {nL : Nat} {L L' : List (Nat × lE)} (h : lv_has ls nL (lL g L)) (hs : ∀ q ∈ L', q ∈ L) : lv_has ls nL (lL g L') := by
  refine ⟨h.1, h.2.1, fun q hq => h.2.2 q ?_⟩
  unfold lL at hq ⊢
  rw [List.mem_map] at hq ⊢
  obtain ⟨a, h1, h2⟩ := hq
  exact ⟨a, hs a h1, h2⟩
/-- the locals behind a store of one word -/
def lup (L : List (Nat × lE)) (i : Nat) (v : lE) : List (Nat × lE) := (i, v) :: L.filter fun q => !(q.1 == i) && !(q.1 + 1 == i && (match q.2 with | .inr (.inl _) => true | _ => false))
theorem lL_up {g : gX} {L : List (Nat × lE)} {i : Nat} {v : lE} : (i, lV g v) :: (lL g L).filter (fun q => !(q.1 == i) && !(q.1 + 1 == i && q.2.category == 2)) = lL g (lup L i v) := by
  unfold lup lL
  rw [List.map_cons, List.filter_map]
  congr 2
  apply congrArg (fun f => List.filter f L)
  funext q
  obtain ⟨j, x | x | x⟩ := q
  · rfl
  · rfl
  · show (!(j == i) && !(j + 1 == i && (grf g x).category == 2)) = _
    rw [grf_cat]
    rfl
section R1
variable {K : kX} {own : String} {cc : ByteArray} {nL fr lo pc q : Nat} {G : gH} {L : List (Nat × lE)} {st : List lE}
theorem r_iconst {n : Int} {v : Int32} (hK : kOk K own cc nL fr lo) (hd : decode cc pc = .ok (.iconst n, 1)) (hv : Int32.ofInt n = v) (hq : pc + 1 = q) (k : V K G q L (vi v :: st)) : V K G pc L (st) := by
  obtain ⟨g, nL', n0, s0, p, l, e, R, s, m, args, below, meth, c, Q⟩ := K
  obtain ⟨rfl, hx, hb, -⟩ := hK
  subst hq
  exact fun H locs ls h1 h2 h3 => lv_iconst hx hb hd hv (k H locs ls h1 h2 h3)
theorem r_bipush {n : Int} {v : Int32} (hK : kOk K own cc nL fr lo) (hd : decode cc pc = .ok (.bipush n, 2)) (hv : (Int8.ofInt n).toInt32 = v) (hq : pc + 2 = q) (k : V K G q L (vi v :: st)) : V K G pc L (st) := by
  obtain ⟨g, nL', n0, s0, p, l, e, R, s, m, args, below, meth, c, Q⟩ := K
  obtain ⟨rfl, hx, hb, -⟩ := hK
  subst hq
  exact fun H locs ls h1 h2 h3 => lv_bipush hx hb hd hv (k H locs ls h1 h2 h3)
theorem r_sipush {n : Int} {v : Int32} (hK : kOk K own cc nL fr lo) (hd : decode cc pc = .ok (.sipush n, 3)) (hv : (Int16.ofInt n).toInt32 = v) (hq : pc + 3 = q) (k : V K G q L (vi v :: st)) : V K G pc L (st) := by
  obtain ⟨g, nL', n0, s0, p, l, e, R, s, m, args, below, meth, c, Q⟩ := K
  obtain ⟨rfl, hx, hb, -⟩ := hK
  subst hq
  exact fun H locs ls h1 h2 h3 => lv_sipush hx hb hd hv (k H locs ls h1 h2 h3)
theorem r_lconst {n : Fin 2} {v : Int64} (hK : kOk K own cc nL fr lo) (hd : decode cc pc = .ok (.lconst n, 1)) (hv : Int64.ofNat (n : Nat) = v) (hq : pc + 1 = q) (k : V K G q L (vj v :: st)) : V K G pc L (st) := by
  obtain ⟨g, nL', n0, s0, p, l, e, R, s, m, args, below, meth, c, Q⟩ := K
  obtain ⟨rfl, hx, hb, -⟩ := hK
  subst hq
  exact fun H locs ls h1 h2 h3 => lv_lconst hx hb hd hv (k H locs ls h1 h2 h3)
theorem r_null (hK : kOk K own cc nL fr lo) (hd : decode cc pc = .ok (.aconst_null, 1)) (hq : pc + 1 = q) (k : V K G q L (vr 0 :: st)) : V K G pc L (st) := by
  obtain ⟨g, nL', n0, s0, p, l, e, R, s, m, args, below, meth, c, Q⟩ := K
  obtain ⟨rfl, hx, hb, -⟩ := hK
  subst hq
  exact fun H locs ls h1 h2 h3 => lv_null hx hb hd (k H locs ls h1 h2 h3)
theorem r_iload_n {k : Fin 4} {x : Int32} {i : Nat} (hK : kOk K own cc nL fr lo) (hd : decode cc pc = .ok (.iload_n k, 1)) (j : Nat) (hl : L[j]? = some (i, vi x)) (hi : (k : Nat) = i) (hq : pc + 1 = q) (k : V K G q L (vi x :: st)) : V K G pc L (st) := by
  obtain ⟨g, nL', n0, s0, p, l, e, R, s, m, args, below, meth, c, Q⟩ := K
  obtain ⟨rfl, hx, hb, -⟩ := hK
  subst hq
  exact fun H locs ls h1 h2 h3 => lv_iload_n hx hb hd hi (lL_at h3 j hl) (k H locs ls h1 h2 h3)
theorem r_iload {x : Int32} {i : Nat} (hK : kOk K own cc nL fr lo) (hd : decode cc pc = .ok (.iload i, 2)) (j : Nat) (hl : L[j]? = some (i, vi x)) (hq : pc + 2 = q) (k : V K G q L (vi x :: st)) : V K G pc L (st) := by
  obtain ⟨g, nL', n0, s0, p, l, e, R, s, m, args, below, meth, c, Q⟩ := K
  obtain ⟨rfl, hx, hb, -⟩ := hK
  subst hq
  exact fun H locs ls h1 h2 h3 => lv_iload hx hb hd (lL_at h3 j hl) (k H locs ls h1 h2 h3)
theorem r_lload_n {k : Fin 4} {x : Int64} {i : Nat} (hK : kOk K own cc nL fr lo) (hd : decode cc pc = .ok (.lload_n k, 1)) (j : Nat) (hl : L[j]? = some (i, vj x)) (hi : (k : Nat) = i) (hq : pc + 1 = q) (k : V K G q L (vj x :: st)) : V K G pc L (st) := by
  obtain ⟨g, nL', n0, s0, p, l, e, R, s, m, args, below, meth, c, Q⟩ := K
  obtain ⟨rfl, hx, hb, -⟩ := hK
  subst hq
  exact fun H locs ls h1 h2 h3 => lv_lload_n hx hb hd hi (lL_at h3 j hl) (k H locs ls h1 h2 h3)
theorem r_aload_n {k : Fin 4} {a i : Nat} (hK : kOk K own cc nL fr lo) (hd : decode cc pc = .ok (.aload_n k, 1)) (j : Nat) (hl : L[j]? = some (i, vr a)) (hi : (k : Nat) = i) (hq : pc + 1 = q) (k : V K G q L (vr a :: st)) : V K G pc L st := by
  obtain ⟨g, nL', n0, s0, p, l, e, R, s, m, args, below, meth, c, Q⟩ := K
  obtain ⟨rfl, hx, hb, -⟩ := hK
  subst hq
  intro H locs ls h1 h2 h3
  have hv := lL_at h3 j hl
  have kk := k H locs ls h1 h2 h3
  rw [lS_cons] at kk
  have e0 : lV g (vr a) = grf g a := rfl
  rw [e0] at hv kk
  unfold grf at hv kk
  split at hv
  · rename_i h0
    rw [if_pos h0] at kk
    exact lv_aload_nN hx hb hd hi hv kk
  · rename_i h0
    rw [if_neg h0] at kk
    exact lv_aload_n hx hb hd hi hv kk
theorem r_aload {a i : Nat} (hK : kOk K own cc nL fr lo) (hd : decode cc pc = .ok (.aload i, 2)) (j : Nat) (hl : L[j]? = some (i, vr a)) (hq : pc + 2 = q) (k : V K G q L (vr a :: st)) : V K G pc L st := by
  obtain ⟨g, nL', n0, s0, p, l, e, R, s, m, args, below, meth, c, Q⟩ := K
  obtain ⟨rfl, hx, hb, -⟩ := hK
  subst hq
  intro H locs ls h1 h2 h3
  have hv := lL_at h3 j hl
  have kk := k H locs ls h1 h2 h3
  rw [lS_cons] at kk
  have e0 : lV g (vr a) = grf g a := rfl
  rw [e0] at hv kk
  unfold grf at hv kk
  split at hv
  · rename_i h0
    rw [if_pos h0] at kk
    exact lv_aloadN hx hb hd hv kk
  · rename_i h0
    rw [if_neg h0] at kk
    exact lv_aload hx hb hd hv kk
theorem r_istore_n {k : Fin 4} {x : Int32} {i : Nat} {L' : List (Nat × lE)} (hK : kOk K own cc nL fr lo) (hd : decode cc pc = .ok (.istore_n k, 1)) (hi : (k : Nat) = i) (hn : i < nL) (hq : pc + 1 = q) (hL : lup L i (vi x) = L') (k : V K G q L' st) : V K G pc L (vi x :: st) := by
  obtain ⟨g, nL', n0, s0, p, l, e, R, s, m, args, below, meth, c, Q⟩ := K
  obtain ⟨rfl, hx, hb, -⟩ := hK
  subst hq
  subst hL
  exact fun H locs ls h1 h2 h3 => lv_istore_n hx hb hd hi h3 hn (lL_up (v := vi x)) (fun ls' h3' => k H locs ls' h1 h2 h3')
theorem r_istore {x : Int32} {i : Nat} {L' : List (Nat × lE)} (hK : kOk K own cc nL fr lo) (hd : decode cc pc = .ok (.istore i, 2)) (hn : i < nL) (hq : pc + 2 = q) (hL : lup L i (vi x) = L') (k : V K G q L' st) : V K G pc L (vi x :: st) := by
  obtain ⟨g, nL', n0, s0, p, l, e, R, s, m, args, below, meth, c, Q⟩ := K
  obtain ⟨rfl, hx, hb, -⟩ := hK
  subst hq
  subst hL
  exact fun H locs ls h1 h2 h3 => lv_istore hx hb hd h3 hn (lL_up (v := vi x)) (fun ls' h3' => k H locs ls' h1 h2 h3')
theorem r_astore_n {k : Fin 4} {a i : Nat} {L' : List (Nat × lE)} (hK : kOk K own cc nL fr lo) (hd : decode cc pc = .ok (.astore_n k, 1)) (hi : (k : Nat) = i) (hn : i < nL) (hq : pc + 1 = q) (hL : lup L i (vr a) = L') (k : V K G q L' st) : V K G pc L (vr a :: st) := by
  obtain ⟨g, nL', n0, s0, p, l, e, R, s, m, args, below, meth, c, Q⟩ := K
  obtain ⟨rfl, hx, hb, -⟩ := hK
  subst hq
  subst hL
  intro H locs ls h1 h2 h3
  have hu := lL_up (g := g) (L := L) (i := i) (v := vr a)
  rw [lS_cons]
  have e0 : lV g (vr a) = grf g a := rfl
  rw [e0] at hu ⊢
  by_cases h0 : a = 0
  · rw [show grf g a = .null from if_pos h0] at hu ⊢
    exact lv_astore_nN hx hb hd hi h3 hn hu (fun ls' h3' => k H locs ls' h1 h2 h3')
  · rw [show grf g a = .ref (gad g a) from if_neg h0] at hu ⊢
    exact lv_astore_n hx hb hd hi h3 hn hu (fun ls' h3' => k H locs ls' h1 h2 h3')
theorem r_astore {a i : Nat} {L' : List (Nat × lE)} (hK : kOk K own cc nL fr lo) (hd : decode cc pc = .ok (.astore i, 2)) (hn : i < nL) (hq : pc + 2 = q) (hL : lup L i (vr a) = L') (k : V K G q L' st) : V K G pc L (vr a :: st) := by
  obtain ⟨g, nL', n0, s0, p, l, e, R, s, m, args, below, meth, c, Q⟩ := K
  obtain ⟨rfl, hx, hb, -⟩ := hK
  subst hq
  subst hL
  intro H locs ls h1 h2 h3
  have hu := lL_up (g := g) (L := L) (i := i) (v := vr a)
  rw [lS_cons]
  have e0 : lV g (vr a) = grf g a := rfl
  rw [e0] at hu ⊢
  by_cases h0 : a = 0
  · rw [show grf g a = .null from if_pos h0] at hu ⊢
    exact lv_astoreN hx hb hd h3 hn hu (fun ls' h3' => k H locs ls' h1 h2 h3')
  · rw [show grf g a = .ref (gad g a) from if_neg h0] at hu ⊢
    exact lv_astore hx hb hd h3 hn hu (fun ls' h3' => k H locs ls' h1 h2 h3')
theorem r_iinc {n : Int} {x v : Int32} {i : Nat} {L' : List (Nat × lE)} (hK : kOk K own cc nL fr lo) (hd : decode cc pc = .ok (.iinc i n, 3)) (j : Nat) (hl : L[j]? = some (i, vi x)) (hv : x + Int32.ofInt n = v) (hn : i < nL) (hq : pc + 3 = q) (hL : lup L i (vi v) = L') (k : V K G q L' st) : V K G pc L st := by
  obtain ⟨g, nL', n0, s0, p, l, e, R, s, m, args, below, meth, c, Q⟩ := K
  obtain ⟨rfl, hx, hb, -⟩ := hK
  subst hq
  subst hL
  exact fun H locs ls h1 h2 h3 => lv_iinc (k := j) hx hb hd h3 (by unfold lL; rw [List.getElem?_map, hl]; rfl) hv hn (lL_up (v := vi v)) (fun ls' h3' => k H locs ls' h1 h2 h3')
theorem r_iadd {x y : Int32} (hK : kOk K own cc nL fr lo) (hd : decode cc pc = .ok (.iadd, 1)) (hq : pc + 1 = q) (k : V K G q L (vi (x + y) :: st)) : V K G pc L (vi y :: vi x :: st) := by
  obtain ⟨g, nL', n0, s0, p, l, e, R, s, m, args, below, meth, c, Q⟩ := K
  obtain ⟨rfl, hx, hb, -⟩ := hK
  subst hq
  exact fun H locs ls h1 h2 h3 => lv_iadd hx hb hd (k H locs ls h1 h2 h3)
theorem r_isub {x y : Int32} (hK : kOk K own cc nL fr lo) (hd : decode cc pc = .ok (.isub, 1)) (hq : pc + 1 = q) (k : V K G q L (vi (x - y) :: st)) : V K G pc L (vi y :: vi x :: st) := by
  obtain ⟨g, nL', n0, s0, p, l, e, R, s, m, args, below, meth, c, Q⟩ := K
  obtain ⟨rfl, hx, hb, -⟩ := hK
  subst hq
  exact fun H locs ls h1 h2 h3 => lv_isub hx hb hd (k H locs ls h1 h2 h3)
theorem r_imul {x y : Int32} (hK : kOk K own cc nL fr lo) (hd : decode cc pc = .ok (.imul, 1)) (hq : pc + 1 = q) (k : V K G q L (vi (x * y) :: st)) : V K G pc L (vi y :: vi x :: st) := by
  obtain ⟨g, nL', n0, s0, p, l, e, R, s, m, args, below, meth, c, Q⟩ := K
  obtain ⟨rfl, hx, hb, -⟩ := hK
  subst hq
  exact fun H locs ls h1 h2 h3 => lv_imul hx hb hd (k H locs ls h1 h2 h3)
theorem r_iand {x y : Int32} (hK : kOk K own cc nL fr lo) (hd : decode cc pc = .ok (.iand, 1)) (hq : pc + 1 = q) (k : V K G q L (vi (x &&& y) :: st)) : V K G pc L (vi y :: vi x :: st) := by
  obtain ⟨g, nL', n0, s0, p, l, e, R, s, m, args, below, meth, c, Q⟩ := K
  obtain ⟨rfl, hx, hb, -⟩ := hK
  subst hq
  exact fun H locs ls h1 h2 h3 => lv_iand hx hb hd (k H locs ls h1 h2 h3)
theorem r_ior {x y : Int32} (hK : kOk K own cc nL fr lo) (hd : decode cc pc = .ok (.ior, 1)) (hq : pc + 1 = q) (k : V K G q L (vi (x ||| y) :: st)) : V K G pc L (vi y :: vi x :: st) := by
  obtain ⟨g, nL', n0, s0, p, l, e, R, s, m, args, below, meth, c, Q⟩ := K
  obtain ⟨rfl, hx, hb, -⟩ := hK
  subst hq
  exact fun H locs ls h1 h2 h3 => lv_ior hx hb hd (k H locs ls h1 h2 h3)
theorem r_ixor {x y : Int32} (hK : kOk K own cc nL fr lo) (hd : decode cc pc = .ok (.ixor, 1)) (hq : pc + 1 = q) (k : V K G q L (vi (x ^^^ y) :: st)) : V K G pc L (vi y :: vi x :: st) := by
  obtain ⟨g, nL', n0, s0, p, l, e, R, s, m, args, below, meth, c, Q⟩ := K
  obtain ⟨rfl, hx, hb, -⟩ := hK
  subst hq
  exact fun H locs ls h1 h2 h3 => lv_ixor hx hb hd (k H locs ls h1 h2 h3)
theorem r_ishl {x y : Int32} (hK : kOk K own cc nL fr lo) (hd : decode cc pc = .ok (.ishl, 1)) (hq : pc + 1 = q) (k : V K G q L (vi (x <<< (y &&& 31)) :: st)) : V K G pc L (vi y :: vi x :: st) := by
  obtain ⟨g, nL', n0, s0, p, l, e, R, s, m, args, below, meth, c, Q⟩ := K
  obtain ⟨rfl, hx, hb, -⟩ := hK
  subst hq
  exact fun H locs ls h1 h2 h3 => lv_ishl hx hb hd (k H locs ls h1 h2 h3)
theorem r_ishr {x y : Int32} (hK : kOk K own cc nL fr lo) (hd : decode cc pc = .ok (.ishr, 1)) (hq : pc + 1 = q) (k : V K G q L (vi (x >>> (y &&& 31)) :: st)) : V K G pc L (vi y :: vi x :: st) := by
  obtain ⟨g, nL', n0, s0, p, l, e, R, s, m, args, below, meth, c, Q⟩ := K
  obtain ⟨rfl, hx, hb, -⟩ := hK
  subst hq
  exact fun H locs ls h1 h2 h3 => lv_ishr hx hb hd (k H locs ls h1 h2 h3)
/-- the remainder -/
def jrem (x y : Int32) : Int32 := x - x / y * y
theorem r_idiv {x y : Int32} (hK : kOk K own cc nL fr lo) (hd : decode cc pc = .ok (.idiv, 1)) (hne : ¬ y = 0) (hq : pc + 1 = q) (k : V K G q L (vi (x / y) :: st)) : V K G pc L (vi y :: vi x :: st) := by
  obtain ⟨g, nL', n0, s0, p, l, e, R, s, m, args, below, meth, c, Q⟩ := K
  obtain ⟨rfl, hx, hb, -⟩ := hK
  subst hq
  exact fun H locs ls h1 h2 h3 => lv_idiv hx hb hd hne (k H locs ls h1 h2 h3)
theorem r_irem {x y : Int32} (hK : kOk K own cc nL fr lo) (hd : decode cc pc = .ok (.irem, 1)) (hne : ¬ y = 0) (hq : pc + 1 = q) (k : V K G q L (vi (jrem x y) :: st)) : V K G pc L (vi y :: vi x :: st) := by
  obtain ⟨g, nL', n0, s0, p, l, e, R, s, m, args, below, meth, c, Q⟩ := K
  obtain ⟨rfl, hx, hb, -⟩ := hK
  subst hq
  exact fun H locs ls h1 h2 h3 => lv_irem hx hb hd hne (k H locs ls h1 h2 h3)
/-- >>> -/
def ushr (x y : Int32) : Int32 := (x.toUInt32 >>> (y.toUInt32 &&& Int32.toUInt32 31)).toInt32
theorem r_iushr {x y : Int32} (hK : kOk K own cc nL fr lo) (hd : decode cc pc = .ok (.iushr, 1)) (hq : pc + 1 = q) (k : V K G q L (vi (ushr x y) :: st)) : V K G pc L (vi y :: vi x :: st) := by
  obtain ⟨g, nL', n0, s0, p, l, e, R, s, m, args, below, meth, c, Q⟩ := K
  obtain ⟨rfl, hx, hb, -⟩ := hK
  subst hq
  exact fun H locs ls h1 h2 h3 => lv_iushr hx hb hd rfl (k H locs ls h1 h2 h3)
theorem r_ineg {x : Int32} (hK : kOk K own cc nL fr lo) (hd : decode cc pc = .ok (.ineg, 1)) (hq : pc + 1 = q) (k : V K G q L (vi (-x) :: st)) : V K G pc L (vi x :: st) := by
  obtain ⟨g, nL', n0, s0, p, l, e, R, s, m, args, below, meth, c, Q⟩ := K
  obtain ⟨rfl, hx, hb, -⟩ := hK
  subst hq
  exact fun H locs ls h1 h2 h3 => lv_ineg hx hb hd (k H locs ls h1 h2 h3)
theorem r_lor {x y : Int64} (hK : kOk K own cc nL fr lo) (hd : decode cc pc = .ok (.lor, 1)) (hq : pc + 1 = q) (k : V K G q L (vj (x ||| y) :: st)) : V K G pc L (vj y :: vj x :: st) := by
  obtain ⟨g, nL', n0, s0, p, l, e, R, s, m, args, below, meth, c, Q⟩ := K
  obtain ⟨rfl, hx, hb, -⟩ := hK
  subst hq
  exact fun H locs ls h1 h2 h3 => lv_lor hx hb hd (k H locs ls h1 h2 h3)
theorem r_lshl {x : Int64} {y : Int32} (hK : kOk K own cc nL fr lo) (hd : decode cc pc = .ok (.lshl, 1)) (hq : pc + 1 = q) (k : V K G q L (vj (x <<< (y.toInt64 &&& 63)) :: st)) : V K G pc L (vi y :: vj x :: st) := by
  obtain ⟨g, nL', n0, s0, p, l, e, R, s, m, args, below, meth, c, Q⟩ := K
  obtain ⟨rfl, hx, hb, -⟩ := hK
  subst hq
  exact fun H locs ls h1 h2 h3 => lv_lshl hx hb hd rfl (k H locs ls h1 h2 h3)
theorem r_i2l {x : Int32} (hK : kOk K own cc nL fr lo) (hd : decode cc pc = .ok (.i2l, 1)) (hq : pc + 1 = q) (k : V K G q L (vj x.toInt64 :: st)) : V K G pc L (vi x :: st) := by
  obtain ⟨g, nL', n0, s0, p, l, e, R, s, m, args, below, meth, c, Q⟩ := K
  obtain ⟨rfl, hx, hb, -⟩ := hK
  subst hq
  exact fun H locs ls h1 h2 h3 => lv_i2l hx hb hd rfl (k H locs ls h1 h2 h3)
theorem r_i2b {x : Int32} (hK : kOk K own cc nL fr lo) (hd : decode cc pc = .ok (.i2b, 1)) (hq : pc + 1 = q) (k : V K G q L (vi x.toInt8.toInt32 :: st)) : V K G pc L (vi x :: st) := by
  obtain ⟨g, nL', n0, s0, p, l, e, R, s, m, args, below, meth, c, Q⟩ := K
  obtain ⟨rfl, hx, hb, -⟩ := hK
  subst hq
  exact fun H locs ls h1 h2 h3 => lv_i2b hx hb hd rfl (k H locs ls h1 h2 h3)
theorem r_i2c {x : Int32} (hK : kOk K own cc nL fr lo) (hd : decode cc pc = .ok (.i2c, 1)) (hq : pc + 1 = q) (k : V K G q L (vi (x.toUInt32 % 65536).toInt32 :: st)) : V K G pc L (vi x :: st) := by
  obtain ⟨g, nL', n0, s0, p, l, e, R, s, m, args, below, meth, c, Q⟩ := K
  obtain ⟨rfl, hx, hb, -⟩ := hK
  subst hq
  exact fun H locs ls h1 h2 h3 => lv_i2c hx hb hd rfl (k H locs ls h1 h2 h3)
theorem r_dup_i {x : Int32} (hK : kOk K own cc nL fr lo) (hd : decode cc pc = .ok (.dup, 1)) (hq : pc + 1 = q) (k : V K G q L (vi x :: vi x :: st)) : V K G pc L (vi x :: st) := by
  obtain ⟨g, nL', n0, s0, p, l, e, R, s, m, args, below, meth, c, Q⟩ := K
  obtain ⟨rfl, hx, hb, -⟩ := hK
  subst hq
  exact fun H locs ls h1 h2 h3 => lv_dup hx hb hd rfl (k H locs ls h1 h2 h3)
theorem r_pop_i {x : Int32} (hK : kOk K own cc nL fr lo) (hd : decode cc pc = .ok (.pop, 1)) (hq : pc + 1 = q) (k : V K G q L (st)) : V K G pc L (vi x :: st) := by
  obtain ⟨g, nL', n0, s0, p, l, e, R, s, m, args, below, meth, c, Q⟩ := K
  obtain ⟨rfl, hx, hb, -⟩ := hK
  subst hq
  exact fun H locs ls h1 h2 h3 => lv_pop hx hb hd rfl (k H locs ls h1 h2 h3)
theorem r_dup_r {x : Nat} (hK : kOk K own cc nL fr lo) (hd : decode cc pc = .ok (.dup, 1)) (hq : pc + 1 = q) (k : V K G q L (vr x :: vr x :: st)) : V K G pc L (vr x :: st) := by
  obtain ⟨g, nL', n0, s0, p, l, e, R, s, m, args, below, meth, c, Q⟩ := K
  obtain ⟨rfl, hx, hb, -⟩ := hK
  subst hq
  exact fun H locs ls h1 h2 h3 => lv_dup hx hb hd grf_cat (k H locs ls h1 h2 h3)
theorem r_pop_r {x : Nat} (hK : kOk K own cc nL fr lo) (hd : decode cc pc = .ok (.pop, 1)) (hq : pc + 1 = q) (k : V K G q L (st)) : V K G pc L (vr x :: st) := by
  obtain ⟨g, nL', n0, s0, p, l, e, R, s, m, args, below, meth, c, Q⟩ := K
  obtain ⟨rfl, hx, hb, -⟩ := hK
  subst hq
  exact fun H locs ls h1 h2 h3 => lv_pop hx hb hd grf_cat (k H locs ls h1 h2 h3)
theorem r_dup_x1_ii {x : Int32} {y : Int32} (hK : kOk K own cc nL fr lo) (hd : decode cc pc = .ok (.dup_x1, 1)) (hq : pc + 1 = q) (k : V K G q L (vi x :: vi y :: vi x :: st)) : V K G pc L (vi x :: vi y :: st) := by
  obtain ⟨g, nL', n0, s0, p, l, e, R, s, m, args, below, meth, c, Q⟩ := K
  obtain ⟨rfl, hx, hb, -⟩ := hK
  subst hq
  exact fun H locs ls h1 h2 h3 => lv_dup_x1 hx hb hd rfl rfl (k H locs ls h1 h2 h3)
theorem r_dup2_ii {x : Int32} {y : Int32} (hK : kOk K own cc nL fr lo) (hd : decode cc pc = .ok (.dup2, 1)) (hq : pc + 1 = q) (k : V K G q L (vi x :: vi y :: vi x :: vi y :: st)) : V K G pc L (vi x :: vi y :: st) := by
  obtain ⟨g, nL', n0, s0, p, l, e, R, s, m, args, below, meth, c, Q⟩ := K
  obtain ⟨rfl, hx, hb, -⟩ := hK
  subst hq
  exact fun H locs ls h1 h2 h3 => lv_dup2_11 hx hb hd rfl rfl (k H locs ls h1 h2 h3)
theorem r_dup_x1_ir {x : Int32} {y : Nat} (hK : kOk K own cc nL fr lo) (hd : decode cc pc = .ok (.dup_x1, 1)) (hq : pc + 1 = q) (k : V K G q L (vi x :: vr y :: vi x :: st)) : V K G pc L (vi x :: vr y :: st) := by
  obtain ⟨g, nL', n0, s0, p, l, e, R, s, m, args, below, meth, c, Q⟩ := K
  obtain ⟨rfl, hx, hb, -⟩ := hK
  subst hq
  exact fun H locs ls h1 h2 h3 => lv_dup_x1 hx hb hd rfl grf_cat (k H locs ls h1 h2 h3)
theorem r_dup2_ir {x : Int32} {y : Nat} (hK : kOk K own cc nL fr lo) (hd : decode cc pc = .ok (.dup2, 1)) (hq : pc + 1 = q) (k : V K G q L (vi x :: vr y :: vi x :: vr y :: st)) : V K G pc L (vi x :: vr y :: st) := by
  obtain ⟨g, nL', n0, s0, p, l, e, R, s, m, args, below, meth, c, Q⟩ := K
  obtain ⟨rfl, hx, hb, -⟩ := hK
  subst hq
  exact fun H locs ls h1 h2 h3 => lv_dup2_11 hx hb hd rfl grf_cat (k H locs ls h1 h2 h3)
theorem r_dup_x1_ri {x : Nat} {y : Int32} (hK : kOk K own cc nL fr lo) (hd : decode cc pc = .ok (.dup_x1, 1)) (hq : pc + 1 = q) (k : V K G q L (vr x :: vi y :: vr x :: st)) : V K G pc L (vr x :: vi y :: st) := by
  obtain ⟨g, nL', n0, s0, p, l, e, R, s, m, args, below, meth, c, Q⟩ := K
  obtain ⟨rfl, hx, hb, -⟩ := hK
  subst hq
  exact fun H locs ls h1 h2 h3 => lv_dup_x1 hx hb hd grf_cat rfl (k H locs ls h1 h2 h3)
theorem r_dup2_ri {x : Nat} {y : Int32} (hK : kOk K own cc nL fr lo) (hd : decode cc pc = .ok (.dup2, 1)) (hq : pc + 1 = q) (k : V K G q L (vr x :: vi y :: vr x :: vi y :: st)) : V K G pc L (vr x :: vi y :: st) := by
  obtain ⟨g, nL', n0, s0, p, l, e, R, s, m, args, below, meth, c, Q⟩ := K
  obtain ⟨rfl, hx, hb, -⟩ := hK
  subst hq
  exact fun H locs ls h1 h2 h3 => lv_dup2_11 hx hb hd grf_cat rfl (k H locs ls h1 h2 h3)
theorem r_dup_x1_rr {x : Nat} {y : Nat} (hK : kOk K own cc nL fr lo) (hd : decode cc pc = .ok (.dup_x1, 1)) (hq : pc + 1 = q) (k : V K G q L (vr x :: vr y :: vr x :: st)) : V K G pc L (vr x :: vr y :: st) := by
  obtain ⟨g, nL', n0, s0, p, l, e, R, s, m, args, below, meth, c, Q⟩ := K
  obtain ⟨rfl, hx, hb, -⟩ := hK
  subst hq
  exact fun H locs ls h1 h2 h3 => lv_dup_x1 hx hb hd grf_cat grf_cat (k H locs ls h1 h2 h3)
theorem r_dup2_rr {x : Nat} {y : Nat} (hK : kOk K own cc nL fr lo) (hd : decode cc pc = .ok (.dup2, 1)) (hq : pc + 1 = q) (k : V K G q L (vr x :: vr y :: vr x :: vr y :: st)) : V K G pc L (vr x :: vr y :: st) := by
  obtain ⟨g, nL', n0, s0, p, l, e, R, s, m, args, below, meth, c, Q⟩ := K
  obtain ⟨rfl, hx, hb, -⟩ := hK
  subst hq
  exact fun H locs ls h1 h2 h3 => lv_dup2_11 hx hb hd grf_cat grf_cat (k H locs ls h1 h2 h3)
theorem r_if_eq {x : Int32} {off : Int} {tgt : Nat} (hK : kOk K own cc nL fr lo) (hd : decode cc pc = .ok (.ifCond .eq off, 3)) (ht : (pc : Int) + off = (tgt : Int)) (hq : pc + 3 = q) (kt : x = 0 → V K G tgt L st) (kf : ¬ x = 0 → V K G q L st) : V K G pc L (vi x :: st) := by
  obtain ⟨g, nL', n0, s0, p, l, e, R, s, m, args, below, meth, c, Q⟩ := K
  obtain ⟨rfl, hx, hb, -⟩ := hK
  subst hq
  exact fun H locs ls h1 h2 h3 => lv_if_eq hx hb hd ht (fun hc => kt hc H locs ls h1 h2 h3) (fun hc => kf hc H locs ls h1 h2 h3)
theorem r_icmp_eq {x y : Int32} {off : Int} {tgt : Nat} (hK : kOk K own cc nL fr lo) (hd : decode cc pc = .ok (.if_icmp .eq off, 3)) (ht : (pc : Int) + off = (tgt : Int)) (hq : pc + 3 = q) (kt : x = y → V K G tgt L st) (kf : ¬ x = y → V K G q L st) : V K G pc L (vi y :: vi x :: st) := by
  obtain ⟨g, nL', n0, s0, p, l, e, R, s, m, args, below, meth, c, Q⟩ := K
  obtain ⟨rfl, hx, hb, -⟩ := hK
  subst hq
  exact fun H locs ls h1 h2 h3 => lv_icmp_eq hx hb hd ht (fun hc => kt hc H locs ls h1 h2 h3) (fun hc => kf hc H locs ls h1 h2 h3)
theorem r_if_ne {x : Int32} {off : Int} {tgt : Nat} (hK : kOk K own cc nL fr lo) (hd : decode cc pc = .ok (.ifCond .ne off, 3)) (ht : (pc : Int) + off = (tgt : Int)) (hq : pc + 3 = q) (kt : ¬ x = 0 → V K G tgt L st) (kf : x = 0 → V K G q L st) : V K G pc L (vi x :: st) := by
  obtain ⟨g, nL', n0, s0, p, l, e, R, s, m, args, below, meth, c, Q⟩ := K
  obtain ⟨rfl, hx, hb, -⟩ := hK
  subst hq
  exact fun H locs ls h1 h2 h3 => lv_if_ne hx hb hd ht (fun hc => kt hc H locs ls h1 h2 h3) (fun hc => kf hc H locs ls h1 h2 h3)
theorem r_icmp_ne {x y : Int32} {off : Int} {tgt : Nat} (hK : kOk K own cc nL fr lo) (hd : decode cc pc = .ok (.if_icmp .ne off, 3)) (ht : (pc : Int) + off = (tgt : Int)) (hq : pc + 3 = q) (kt : ¬ x = y → V K G tgt L st) (kf : x = y → V K G q L st) : V K G pc L (vi y :: vi x :: st) := by
  obtain ⟨g, nL', n0, s0, p, l, e, R, s, m, args, below, meth, c, Q⟩ := K
  obtain ⟨rfl, hx, hb, -⟩ := hK
  subst hq
  exact fun H locs ls h1 h2 h3 => lv_icmp_ne hx hb hd ht (fun hc => kt hc H locs ls h1 h2 h3) (fun hc => kf hc H locs ls h1 h2 h3)
theorem r_if_lt {x : Int32} {off : Int} {tgt : Nat} (hK : kOk K own cc nL fr lo) (hd : decode cc pc = .ok (.ifCond .lt off, 3)) (ht : (pc : Int) + off = (tgt : Int)) (hq : pc + 3 = q) (kt : x < 0 → V K G tgt L st) (kf : ¬ x < 0 → V K G q L st) : V K G pc L (vi x :: st) := by
  obtain ⟨g, nL', n0, s0, p, l, e, R, s, m, args, below, meth, c, Q⟩ := K
  obtain ⟨rfl, hx, hb, -⟩ := hK
  subst hq
  exact fun H locs ls h1 h2 h3 => lv_if_lt hx hb hd ht (fun hc => kt hc H locs ls h1 h2 h3) (fun hc => kf hc H locs ls h1 h2 h3)
theorem r_icmp_lt {x y : Int32} {off : Int} {tgt : Nat} (hK : kOk K own cc nL fr lo) (hd : decode cc pc = .ok (.if_icmp .lt off, 3)) (ht : (pc : Int) + off = (tgt : Int)) (hq : pc + 3 = q) (kt : x < y → V K G tgt L st) (kf : ¬ x < y → V K G q L st) : V K G pc L (vi y :: vi x :: st) := by
  obtain ⟨g, nL', n0, s0, p, l, e, R, s, m, args, below, meth, c, Q⟩ := K
  obtain ⟨rfl, hx, hb, -⟩ := hK
  subst hq
  exact fun H locs ls h1 h2 h3 => lv_icmp_lt hx hb hd ht (fun hc => kt hc H locs ls h1 h2 h3) (fun hc => kf hc H locs ls h1 h2 h3)
theorem r_if_ge {x : Int32} {off : Int} {tgt : Nat} (hK : kOk K own cc nL fr lo) (hd : decode cc pc = .ok (.ifCond .ge off, 3)) (ht : (pc : Int) + off = (tgt : Int)) (hq : pc + 3 = q) (kt : 0 ≤ x → V K G tgt L st) (kf : ¬ 0 ≤ x → V K G q L st) : V K G pc L (vi x :: st) := by
  obtain ⟨g, nL', n0, s0, p, l, e, R, s, m, args, below, meth, c, Q⟩ := K
  obtain ⟨rfl, hx, hb, -⟩ := hK
  subst hq
  exact fun H locs ls h1 h2 h3 => lv_if_ge hx hb hd ht (fun hc => kt hc H locs ls h1 h2 h3) (fun hc => kf hc H locs ls h1 h2 h3)
theorem r_icmp_ge {x y : Int32} {off : Int} {tgt : Nat} (hK : kOk K own cc nL fr lo) (hd : decode cc pc = .ok (.if_icmp .ge off, 3)) (ht : (pc : Int) + off = (tgt : Int)) (hq : pc + 3 = q) (kt : y ≤ x → V K G tgt L st) (kf : ¬ y ≤ x → V K G q L st) : V K G pc L (vi y :: vi x :: st) := by
  obtain ⟨g, nL', n0, s0, p, l, e, R, s, m, args, below, meth, c, Q⟩ := K
  obtain ⟨rfl, hx, hb, -⟩ := hK
  subst hq
  exact fun H locs ls h1 h2 h3 => lv_icmp_ge hx hb hd ht (fun hc => kt hc H locs ls h1 h2 h3) (fun hc => kf hc H locs ls h1 h2 h3)
theorem r_if_gt {x : Int32} {off : Int} {tgt : Nat} (hK : kOk K own cc nL fr lo) (hd : decode cc pc = .ok (.ifCond .gt off, 3)) (ht : (pc : Int) + off = (tgt : Int)) (hq : pc + 3 = q) (kt : 0 < x → V K G tgt L st) (kf : ¬ 0 < x → V K G q L st) : V K G pc L (vi x :: st) := by
  obtain ⟨g, nL', n0, s0, p, l, e, R, s, m, args, below, meth, c, Q⟩ := K
  obtain ⟨rfl, hx, hb, -⟩ := hK
  subst hq
  exact fun H locs ls h1 h2 h3 => lv_if_gt hx hb hd ht (fun hc => kt hc H locs ls h1 h2 h3) (fun hc => kf hc H locs ls h1 h2 h3)
theorem r_icmp_gt {x y : Int32} {off : Int} {tgt : Nat} (hK : kOk K own cc nL fr lo) (hd : decode cc pc = .ok (.if_icmp .gt off, 3)) (ht : (pc : Int) + off = (tgt : Int)) (hq : pc + 3 = q) (kt : y < x → V K G tgt L st) (kf : ¬ y < x → V K G q L st) : V K G pc L (vi y :: vi x :: st) := by
  obtain ⟨g, nL', n0, s0, p, l, e, R, s, m, args, below, meth, c, Q⟩ := K
  obtain ⟨rfl, hx, hb, -⟩ := hK
  subst hq
  exact fun H locs ls h1 h2 h3 => lv_icmp_gt hx hb hd ht (fun hc => kt hc H locs ls h1 h2 h3) (fun hc => kf hc H locs ls h1 h2 h3)
theorem r_if_le {x : Int32} {off : Int} {tgt : Nat} (hK : kOk K own cc nL fr lo) (hd : decode cc pc = .ok (.ifCond .le off, 3)) (ht : (pc : Int) + off = (tgt : Int)) (hq : pc + 3 = q) (kt : x ≤ 0 → V K G tgt L st) (kf : ¬ x ≤ 0 → V K G q L st) : V K G pc L (vi x :: st) := by
  obtain ⟨g, nL', n0, s0, p, l, e, R, s, m, args, below, meth, c, Q⟩ := K
  obtain ⟨rfl, hx, hb, -⟩ := hK
  subst hq
  exact fun H locs ls h1 h2 h3 => lv_if_le hx hb hd ht (fun hc => kt hc H locs ls h1 h2 h3) (fun hc => kf hc H locs ls h1 h2 h3)
theorem r_icmp_le {x y : Int32} {off : Int} {tgt : Nat} (hK : kOk K own cc nL fr lo) (hd : decode cc pc = .ok (.if_icmp .le off, 3)) (ht : (pc : Int) + off = (tgt : Int)) (hq : pc + 3 = q) (kt : x ≤ y → V K G tgt L st) (kf : ¬ x ≤ y → V K G q L st) : V K G pc L (vi y :: vi x :: st) := by
  obtain ⟨g, nL', n0, s0, p, l, e, R, s, m, args, below, meth, c, Q⟩ := K
  obtain ⟨rfl, hx, hb, -⟩ := hK
  subst hq
  exact fun H locs ls h1 h2 h3 => lv_icmp_le hx hb hd ht (fun hc => kt hc H locs ls h1 h2 h3) (fun hc => kf hc H locs ls h1 h2 h3)
theorem r_goto {off : Int} {tgt : Nat} (hK : kOk K own cc nL fr lo) (hd : decode cc pc = .ok (.goto off, 3)) (ht : (pc : Int) + off = (tgt : Int)) (k : V K G tgt L st) : V K G pc L st := by
  obtain ⟨g, nL', n0, s0, p, l, e, R, s, m, args, below, meth, c, Q⟩ := K
  obtain ⟨rfl, hx, hb, -⟩ := hK
  exact fun H locs ls h1 h2 h3 => lv_goto hx hb hd ht (k H locs ls h1 h2 h3)
theorem r_tableOut {dflt lo' hi : Int} {offs : Array Int} {len : Nat} {x : Int32} {tgt : Nat} (hK : kOk K own cc nL fr lo) (hd : decode cc pc = .ok (.tableswitch dflt lo' hi offs, len)) (h : x.toInt < lo' ∨ hi < x.toInt) (ht : (pc : Int) + dflt = (tgt : Int)) (k : V K G tgt L st) : V K G pc L (vi x :: st) := by
  obtain ⟨g, nL', n0, s0, p, l, e, R, s, m, args, below, meth, c, Q⟩ := K
  obtain ⟨rfl, hx, hb, -⟩ := hK
  exact fun H locs ls h1 h2 h3 => lv_tableOut hx hb hd h ht (k H locs ls h1 h2 h3)
theorem r_tableIn {dflt lo' hi : Int} {offs : Array Int} {len : Nat} {x : Int32} {off : Int} {tgt : Nat} (hK : kOk K own cc nL fr lo) (hd : decode cc pc = .ok (.tableswitch dflt lo' hi offs, len)) (i : Int) (hxi : x.toInt = i) (hlo : ¬ i < lo') (hhi : ¬ hi < i) (ho : offs[(i - lo').toNat]? = some off) (ht : (pc : Int) + off = (tgt : Int)) (k : V K G tgt L st) : V K G pc L (vi x :: st) := by
  obtain ⟨g, nL', n0, s0, p, l, e, R, s, m, args, below, meth, c, Q⟩ := K
  obtain ⟨rfl, hx, hb, -⟩ := hK
  subst hxi
  exact fun H locs ls h1 h2 h3 => lv_tableIn hx hb hd hlo hhi ho ht (k H locs ls h1 h2 h3)
theorem r_ldc {index : Nat} {v : Int32} (hK : kOk K own cc nL fr lo) (hd : decode cc pc = .ok (.ldc index, 2)) (hw : Cond.constant own index v ∈ lw_all) (hq : pc + 2 = q) (k : V K G q L (vi v :: st)) : V K G pc L st := by
  obtain ⟨g, nL', n0, s0, p, l, e, R, s, m, args, below, meth, c, Q⟩ := K
  obtain ⟨rfl, hx, hb, -, hown, hts, -⟩ := hK
  subst hq
  exact fun H locs ls h1 h2 h3 => lv_ldc hx hb hown (hts _ hw) hd (k H locs ls h1 h2 h3)
theorem r_ldcw {index : Nat} {v : Int32} (hK : kOk K own cc nL fr lo) (hd : decode cc pc = .ok (.ldc_w index, 3)) (hw : Cond.constant own index v ∈ lw_all) (hq : pc + 3 = q) (k : V K G q L (vi v :: st)) : V K G pc L st := by
  obtain ⟨g, nL', n0, s0, p, l, e, R, s, m, args, below, meth, c, Q⟩ := K
  obtain ⟨rfl, hx, hb, -, hown, hts, -⟩ := hK
  subst hq
  exact fun H locs ls h1 h2 h3 => lv_ldcw hx hb hown (hts _ hw) hd (k H locs ls h1 h2 h3)
theorem r_ldc2 {index : Nat} {v : Int64} (hK : kOk K own cc nL fr lo) (hd : decode cc pc = .ok (.ldc2_w index, 3)) (hw : Cond.constantLong own index v ∈ lw_all) (hq : pc + 3 = q) (k : V K G q L (vj v :: st)) : V K G pc L st := by
  obtain ⟨g, nL', n0, s0, p, l, e, R, s, m, args, below, meth, c, Q⟩ := K
  obtain ⟨rfl, hx, hb, -, hown, hts, -⟩ := hK
  subst hq
  exact fun H locs ls h1 h2 h3 => lv_ldc2 hx hb hown (hts _ hw) hd (k H locs ls h1 h2 h3)
theorem r_eqL {L' : List (Nat × lE)} (hs : ∀ q ∈ L', q ∈ L) (k : V K G pc L' st) : V K G pc L st := by
  obtain ⟨g, nL', n0, s0, p, l, e, R, s, m, args, below, meth, c, Q⟩ := K
  exact fun H locs ls h1 h2 h3 => k H locs ls h1 h2 (lL_sub h3 hs)
end R1
