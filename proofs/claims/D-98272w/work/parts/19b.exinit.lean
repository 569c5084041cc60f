/-! ===== super() of an exception's constructor (no stack traces): after vx_ctorMade0 of kit/laws/EXCEPTIONS.to-paste ===== -/
set_option maxRecDepth 100000
def exAt (own : String) (ic : Nat) (cls : String) (names : List String) (ocls : String) (ns : Nat) : List Cond :=
  Bundle.throwableAtoms ++ Bundle.chain0Atoms cls names ++
  [.methodLink own ic (Bundle.init0 cls), .instantiable ocls ns, .selects ocls Bundle.tFill0 Bundle.tFill0, .selects ocls Bundle.tFill Bundle.tFill,
   .lays ocls Bundle.tN "cause" "Ljava/lang/Throwable;", .lays ocls Bundle.tN "stackTrace" Bundle.steD, .lays ocls Bundle.tN "suppressedExceptions" Bundle.listD,
   .isRef (.static Bundle.tN "UNASSIGNED_STACK" Bundle.steD), .isRef (.static Bundle.tN "SUPPRESSED_SENTINEL" Bundle.listD),
   .fieldLink Bundle.tN 198 Bundle.tN "backtrace" "Ljava/lang/Object;", .lays Bundle.tN Bundle.tN "backtrace" "Ljava/lang/Object;", .lays ocls Bundle.tN "backtrace" "Ljava/lang/Object;"]
theorem vz_takes {s : State} {cell : Cell} {k : Class} {f : Field} {v : Value} (hk : s.vm.classes[cell.cls]? = some k) (hord : k.kind = .ordinary) (hvm : cell.vm = .none) (hty : k.instanceTypes[f.slot]? = some f.type) (hsz : cell.slots.size = k.instanceTypes.size) (hv : fits f.type v = true) : Takes s cell f v := by
  refine ⟨?_, ?_⟩
  · rw [hsz]
    exact (Array.getElem?_eq_some_iff.mp hty).1
  · rw [hvm]
    simp [State.fitsSlot, State.slotType?, hk, hord, hty, hv]
section VZS
variable {p : Program} {l : Launch} {e : Env} {R : Room} {s : State} {m₀ : MethodId} {args : Array Value} {below : List Frame} {meth : Method} {c : Code} {W : State} {locs : List Loc} {cells slots : Nat}
set_option maxHeartbeats 1000000 in
theorem vz_super0 (X : Stand p l e R s m₀ args below meth c W locs cells slots) (hexec : p.tables.exec = Jvm.exec) (htr : e.platform.stackTraces = false) {own cls ocls : String} {names : List String} {ic ns : Nat}
    (hown : s.vm.findClass own = some m₀.cls) (hcls : Bundle.fit cls = true) (hnames : ∀ n ∈ names, Bundle.fit n = true)
    (h : ∀ a ∈ exAt own ic cls names ocls ns, a.before args s = true) {B : Nat} (hlb : ∀ x ∈ locs, B ≤ x.base)
    (hsB : ∀ (cT : ClassId) (kT : Class) (aS : Nat), s.vm.findClass Bundle.tN = some cT → s.vm.classes[cT]? = some kT → kT.statics = some aS → aS < B)
    {a : Addr} {cO : ClassId} {cell : Cell} (hfO : s.vm.findClass ocls = some cO) (hcell : W.heap[a]? = some cell) (hcc : cell.cls = cO) (hcv : cell.vm = .none) (hmo : cell.monitor.owner = none ∧ cell.monitor.count = 0) (hsz : cell.slots.size = ns) (haB : B ≤ a)
    (hback : ∀ (cf : ClassId) (kf : Class) (fi : Nat) (fd : Field), s.fieldFound? Bundle.tN "backtrace" "Ljava/lang/Object;" = some (cf, kf, fi, fd) → cell.slots[fd.slot]? = some .null)
    {g : JFrame} (hg : g.method = m₀) (hsize : g.locals.size = c.maxLocals) {rest : List Value} (hstack : g.stack = .ref a :: rest)
    (hd6 : decode c.code g.pc = .ok (.invokespecial ic, 3))
    (hRframes : names.length + 3 < R.frames) (hRlocals : 2 * g.monitorRoom + (rest.map fun v => v.category).sum + (13 * (names.length + 1) + 41) ≤ R.locals) :
    ∃ (V : State) (ce : Cell) (L : List Loc) (c1 c2 c3 : ClassId) (k1 k2 k3 : Class) (i1 i2 i3 : Nat) (f1 f2 f3 : Field), Stand p l e R s m₀ args below meth c (V.setCell a ce) (locs ++ L) cells slots ∧ (∀ y ∈ L, y.base = a) ∧ V.heap = W.heap ∧ ce.cls = cO ∧ ce.vm = .none ∧ ce.monitor = cell.monitor ∧ ce.slots.size = cell.slots.size ∧
      s.fieldFound? Bundle.tN "cause" "Ljava/lang/Throwable;" = some (c1, k1, i1, f1) ∧ s.fieldFound? Bundle.tN "stackTrace" Bundle.steD = some (c2, k2, i2, f2) ∧ s.fieldFound? Bundle.tN "suppressedExceptions" Bundle.listD = some (c3, k3, i3, f3) ∧
      (∀ i : Nat, i ≠ f1.slot → i ≠ f2.slot → i ≠ f3.slot → ce.slots[i]? = cell.slots[i]?) ∧
      ∀ target, Steps p.tables e below ((V.setCell a ce).setTop { g with stack := rest, pc := g.pc + 3 }) target → Steps p.tables e below (W.setTop g) target := by
  have howns : e.platform.frameOwnsMonitors = true := by rw [X.admits.platform]
  have hfin : e.platform.finalization = false := by rw [X.admits.platform]
  have hpl : e.platform.magicAccessors = ({} : Platform).magicAccessors := by rw [X.admits.platform]
  have a' : ∀ x, x ∈ exAt own ic cls names ocls ns → x.holds args s none s [] = true := fun x hx => h x hx
  obtain ⟨T, Z, L, LZ, Y⟩ := ThrowableC.of_atoms (args := args) howns hfin hpl (fun x hx => h x (by simp [exAt, hx]))
  obtain ⟨P1, Ps, hlen, L1, hL, hP1m, hlink1, hlink⟩ := Bundle.chain0 (args := args) hpl Y.init0 names cls hcls hnames (fun x hx => h x (by simp [exAt, hx]))
  subst hcc
  obtain ⟨c1, kX, hc1, hk, hord, -, -, hn6⟩ := Cond.instantiable_spec (a' (.instantiable ocls ns) (by simp [exAt]))
  cases Option.some.inj (hc1.symm.trans hfO)
  have hsel0 : selectMethod e.platform s.vm cell.cls T.fill0 = .method T.fill0 := by
    obtain ⟨c2, r2, m2, q1, q2, q3, q4, -⟩ := Cond.selects_spec (a' (.selects ocls Bundle.tFill0 Bundle.tFill0) (by simp [exAt]))
    cases Option.some.inj (q1.symm.trans hfO)
    cases Option.some.inj (q2.symm.trans (State.methodFound?_of_named Y.fill0 (by decide)))
    cases Option.some.inj (q3.symm.trans Y.fill0)
    rw [Launch.admits_selectMethod X.admits]; exact q4
  have hselF : selectMethod e.platform s.vm cell.cls T.fill = .method T.fill := by
    obtain ⟨c2, r2, m2, q1, q2, q3, q4, -⟩ := Cond.selects_spec (a' (.selects ocls Bundle.tFill Bundle.tFill) (by simp [exAt]))
    cases Option.some.inj (q1.symm.trans hfO)
    cases Option.some.inj (q2.symm.trans (State.methodFound?_of_named Y.fill (by decide)))
    cases Option.some.inj (q3.symm.trans Y.fill)
    rw [Launch.admits_selectMethod X.admits]; exact q4
  obtain ⟨cellS0, hcS0, hiss⟩ := Y.statics
  obtain ⟨u0, hu0⟩ := Cond.staticRefV Y.unassigned L.unassignedStatic L.statics hcS0 hiss (a' (.isRef (.static Bundle.tN "UNASSIGNED_STACK" Bundle.steD)) (by simp [exAt]))
  obtain ⟨sen, hsen⟩ := Cond.staticRefV Y.sentinel L.sentinelStatic L.statics hcS0 hiss (a' (.isRef (.static Bundle.tN "SUPPRESSED_SENTINEL" Bundle.listD)) (by simp [exAt]))
  obtain ⟨ci198, i198, fB, hk198, hg198, ha198, hsBk, -, hnB, htB, hffB⟩ := Cond.ownField (t := .object "java/lang/Object") Y.found L.cls (by decide +kernel) (a' (.fieldLink Bundle.tN 198 Bundle.tN "backtrace" "Ljava/lang/Object;") (by simp [exAt])) (a' (.lays Bundle.tN Bundle.tN "backtrace" "Ljava/lang/Object;") (by simp [exAt])) e.platform hpl
  obtain ⟨cellS, hcS', heS, -, hkeep⟩ := X.same.2.2.2.2.2 T.aS cellS0 hcS0
  have hcellS : W.heap[T.aS]? = some cellS := hcS'
  have haS : T.aS < B := hsB _ _ _ Y.found L.cls L.statics
  have hout' : ∀ i, (⟨T.aS, i⟩ : Loc) ∉ locs := fun i hmem => by
    have : B ≤ T.aS := hlb _ hmem
    exact absurd haS (Nat.not_lt.mpr this)
  have hknownS : cellS.vm ≠ .unknown := by
    rw [heS]; intro hu
    rw [show cellS0.vm = .unknown from hu] at hiss
    cases hiss
  have hneS : T.aS ≠ a := Nat.ne_of_lt (Nat.lt_of_lt_of_le haS haB)
  obtain ⟨tyC, dC, hdC, hdnC⟩ := Cond.laysAt hfO hk Y.cause (a' (.lays ocls Bundle.tN "cause" "Ljava/lang/Throwable;") (by simp [exAt]))
  obtain ⟨tyS, dS, hdS, hdnS⟩ := Cond.laysAt hfO hk Y.stack (a' (.lays ocls Bundle.tN "stackTrace" Bundle.steD) (by simp [exAt]))
  obtain ⟨tyP, dP, hdP, hdnP⟩ := Cond.laysAt hfO hk Y.supp (a' (.lays ocls Bundle.tN "suppressedExceptions" Bundle.listD) (by simp [exAt]))
  obtain ⟨tyB, dB, hdB, hdnB⟩ := Cond.laysAt hfO hk hffB (a' (.lays ocls Bundle.tN "backtrace" "Ljava/lang/Object;") (by simp [exAt]))
  have bC := Cond.laysApart hdB hdC hdnB hdnC (by rw [hnB, Y.causeName]; decide)
  have bS := Cond.laysApart hdB hdS hdnB hdnS (by rw [hnB, Y.stackName]; decide)
  have bP := Cond.laysApart hdB hdP hdnB hdnP (by rw [hnB, Y.suppName]; decide)
  have hszk : cell.slots.size = kX.instanceTypes.size := by rw [hsz, hn6]
  have hskip : SkipFacts T e.platform s (fun u => u) u0 ((preparedCellV T.toThrowableT cell a u0 sen).withEntry W.cur) :=
    ⟨{ ci198 := ci198, i198 := i198, fBack := fB }, ⟨hk198, hg198, ha198, hsBk⟩, by
      have := hback _ _ _ _ hffB
      simpa [preparedCellV, Cell.setSlot, Cell.withEntry, Array.getElem?_setIfInBounds, bC, bS, bP, bC.symm, bS.symm, bP.symm] using this, fun _ _ => rfl⟩
  obtain ⟨tm, methC, cdC, kC, vm₁, hnC, -, -, -, -, -, -, -, hW₁, st1⟩ := Steps.initCold (tb := p.tables) (e := e) (below := below) (s := s) (U := W) X.here hexec X.warmed hpl hown (t := Bundle.init0 cls) rfl rfl (Bundle.fit_spec hcls).2
    (a' (.methodLink own ic (Bundle.init0 cls)) (by simp [exAt])) (h (.instanceMethod (Bundle.init0 cls)) (by cases names <;> simp [exAt, Bundle.chain0Atoms, Bundle.passAtoms])) (bytes := Bundle.five) (maxL := 1) (h (.code (Bundle.init0 cls) Bundle.five 1 none) (by cases names <;> simp [exAt, Bundle.chain0Atoms, Bundle.passAtoms]))
    (f := g) hg (a := a) (rest := rest) hstack hd6
  cases Option.some.inj (hnC.symm.trans hP1m)
  have X₁ := X.noted hW₁
  obtain ⟨vm₂, X₂, st2⟩ := X₁.ctorPlainOffV hexec (g := { g with stack := rest }) hg hsize T L Z LZ (P1 :: Ps)
    (fun P hP => by rcases List.mem_cons.mp hP with rfl | hP; exact L1; exact hL P hP) ⟨hlink1, hlink⟩ (u0 := u0) (sen := sen) (self := a) (cell := cell) (cellS := cellS)
    hcell (fun _ => by rw [hcv]; exact fun h => by cases h) (by rw [hcv]; exact fun h => by cases h) hmo.1 hmo.2 hsel0 hselF hcellS hneS hknownS (by rw [hkeep _ (hout' _)]; exact hu0) (by rw [hkeep _ (hout' _)]; exact hsen)
    (vz_takes hk hord hcv tyC hszk (by rw [Y.causeType]; rfl)) (vz_takes hk hord hcv tyS hszk (by rw [Y.stackType]; exact fits_refV_array _ u0)) (vz_takes hk hord hcv tyP hszk (by rw [Y.suppType]; exact fits_refV_object _ sen)) Y.objLocals hskip htr [] hd6
    (by simp only [List.length_cons, hlen]; omega) (by simp only [List.length_cons, hlen]; exact hRlocals)
  refine ⟨(W.setVm vm₁).setVm vm₂, _, _, _, _, _, _, _, _, _, _, _, _, _, _, X₂, fun y hy => ?_, rfl, rfl, hcv, rfl, ?_, Y.cause, Y.stack, Y.supp, fun i h1 h2 h3 => ?_, fun target hwalk => st1 _ (fun acts => ?_)⟩
  · simp only [List.mem_cons, List.not_mem_nil, or_false] at hy
    rcases hy with rfl | rfl | rfl | rfl <;> rfl
  · simp [preparedCellV, Cell.setSlot]
  · simp [preparedCellV, Cell.setSlot, Array.getElem?_setIfInBounds, h1.symm, h2.symm, h3.symm]
  · rw [doInvoke_state]
    exact st2 _ hwalk
end VZS
section RX
variable {K : kX} {own : String} {cc : ByteArray} {nL fr lo pc q : Nat} {G : gH} {L : List (Nat × lE)} {st : List lE}
theorem kept_old {g : gX} {G0 : gH} {H : Heap} (h : Rep g G0 H) : ∀ a : Nat, a < (xH g).size → ¬ (xH g).size ≤ a → H[a]? = (xH g)[a]? := fun a h1 _ => h.2.2.1 a h1
set_option maxHeartbeats 4000000 in
/-- super() in an exception's constructor, or the constructor itself of one that has none of its own: nothing that is known changes -/
theorem r_exInit {idx t a N ns kb : Nat} {C cls : String} {T : u_T} {ty0 : Nat → FieldType} {names : List String} (hK : kOk K own cc nL fr lo) (hd : decode cc pc = .ok (.invokespecial idx, 3)) (hgo : gOk (kg K)) (htr : (kl K).stackTraces = false) (hcls : Bundle.fit cls = true) (hnames : ∀ n ∈ names, Bundle.fit n = true)
    (hw : ∀ w ∈ (exAt own idx cls names C ns).filter vw_no, w ∈ lw_all ∨ (w ∈ lw_tbl ∧ nxw w = true)) (hot : ∀ w ∈ (exAt own idx cls names C ns).filter vw_no, nxw w = true → w.onTables = true)
    (hc : gcl[t]? = some (C, T, N)) (hin : ∀ w ∈ u_ws C T N, w ∈ lw_all) (hty : ∀ k, k < N → parseFieldDescriptor (T k).2.2.1 = some (ty0 k)) (hnmT : ∀ k, k < N → (T k).2.1 ≠ "cause" ∧ (T k).2.1 ≠ "stackTrace" ∧ (T k).2.1 ≠ "suppressedExceptions") (hkb : kb < N) (hTb : T kb = ("java/lang/Throwable", "backtrace", "Ljava/lang/Object;", false)) (hgb : gfty t kb = .object "java/lang/Object")
    (h0 : 0 < t) (h64 : t < 64) (ht : gT G a = t) (ha : 64 ≤ a) (hgl : gL G a = ns) (hbk : gR G a kb = 0) (hfr : names.length + 3 < fr) (hlo : (st.map lcat).sum + (13 * (names.length + 1) + 41) ≤ lo) (hq : pc + 3 = q) (kk : V K G q L st) : V K G pc L (vr a :: st) := by
  obtain ⟨g, nL', n0, s0, p, l, e, R, s, m, args, below, meth, c, Q⟩ := K
  obtain ⟨rfl, hx, hb, hml, hown, hts, hCx, hlk, hf1, hf2, hRc, hRs, G0, hn0, hs0, hR0⟩ := hK
  subst hq
  intro H locs ls h1 h2 h3 T9 hT9 X9
  have hoX := hgo s hCx.2.2.2.1
  obtain ⟨-, -, -, hU, hN, -⟩ := hoX
  have hU' : vw_Zq Bundle.tN "UNASSIGNED_STACK" Bundle.steD (fun q => (xH g).size ≤ q) s s.heap := hU.kept (kept_old hR0)
  have hN' : vw_Zq Bundle.tN "SUPPRESSED_SENTINEL" Bundle.listD (fun q => (xH g).size ≤ q) s s.heap := hN.kept (kept_old hR0)
  have hall : ∀ w ∈ exAt own idx cls names C ns, w.before args s = true := vw_own (fun w hw9 => by
    rcases hw w hw9 with h | ⟨h, hn⟩
    · exact hts _ h
    · exact va_Nw.use (hot w hw9 hn) (hCx.2.1 w h hn)) (vw_isRefq hU'.1) (vw_isRefq hN'.1) hU'.2.word hN'.2.word
  have hKn := hCx.1.1 t _ hc
  obtain ⟨hS, hfc, kC, hkC, hkind⟩ := hKn
  obtain ⟨cell, q1, q2, q3, q4⟩ := h1.obj ht h0 h64
  have hg9 : gnf t = N := by simp [gnf, hc]
  rw [hg9] at q4
  obtain ⟨cell', m1, m2, m3, m4⟩ := h1.2.2.2.2.2.2.2.2.2.2 a ha (by omega)
  cases q1.symm.trans m1
  have htr' : e.platform.stackTraces = false := (show e.platform.stackTraces = l.stackTraces by rw [X9.admits.platform]).trans htr
  have e0 : lS g (vr a :: st) = .ref (gad g a) :: lS g st := by
    rw [lS_cons]
    show grf g a :: _ = _
    rw [grf_ne (h1.pos ht h0)]
  rw [e0]
  obtain ⟨V', ce, L', c1, c2, c3, k1, k2, k3, i1, i2, i3, f1, f2, f3, X', hL', hV', hce1, hce2, hce3, hce4, hfd1, hfd2, hfd3, hsl, hgo'⟩ := vz_super0 (B := (xH g).size) (cO := xC g t) (cell := cell) X9 hx htr' hown hcls hnames hall h2
    (fun cT kT aS hfT hkT hst => by
      obtain ⟨c9, k9, i9, f9, a9, cell9, z1, z2, z3, z4, z5, -⟩ := hU.2
      have e1 : c9 = cT := Option.some.inj (z1.symm.trans hfT)
      subst e1
      have hk9 : k9 = kT := Option.some.inj ((State.fieldFound?_class z2).symm.trans hkT)
      subst hk9
      have e2 : a9 = aS := Option.some.inj (z4.symm.trans hst)
      subst e2
      exact (Array.getElem?_eq_some_iff.mp z5).1)
    hfc (by rw [hT9]; exact q1) q2 q3 ⟨m2, m3⟩ (by rw [m4]; exact hgl) (by rw [gad_new ha]; exact Nat.le_add_right _ _)
    (fun cf kf fi fd hfd => by
      obtain ⟨cf', kf', fi', f', hi', hsl'⟩ := hS kb hkb
      have hi2 : s.fieldFound? Bundle.tN "backtrace" "Ljava/lang/Object;" = some (cf', kf', fi', f') := by
        have h9 := hi'
        simp only [hTb] at h9
        exact h9
      cases hfd.symm.trans hi2
      rw [hsl']
      have := q4 kb hkb
      rw [show ((xC g, xI g).2 t kb) = xI g t kb from rfl, this]
      unfold gval
      rw [hgb]
      show some (grf g (gR G a kb)) = _
      rw [hbk, grf_0])
    (g := F0 m pc ls (.ref (gad g a) :: lS g st)) rfl (by rw [hml]; exact h3.1) rfl (by rw [hb]; exact hd) (by rw [hf1]; exact hfr) (by show 2 * 0 + _ + _ ≤ _; rw [lS_sum, hf2]; omega)
  have hlt : gad g a < V'.heap.size := by
    rw [hV', hT9]
    exact (Array.getElem?_eq_some_iff.mp q1).1
  have hRn : Rep g G (V'.setCell (gad g a) ce).heap := by
    refine h1.upd (a := a) ha (by omega) rfl rfl rfl rfl (by rw [size_setCell, hV', hT9]) (fun x hx9 => by rw [heapAt_setCell_ne _ (Ne.symm hx9), hV', hT9]) ?_ ?_ (fun _ _ _ => rfl) (fun _ => ?_) (fun h => absurd h (by omega))
    · rw [heapAt_setCell_self _ hlt, q1]
      simp [hce4]
    · exact ⟨ce, heapAt_setCell_self _ hlt, by rw [hce3]; exact m2, by rw [hce3]; exact m3, by rw [hce4]; exact m4⟩
    · rw [ht, hg9]
      refine ⟨ce, heapAt_setCell_self _ hlt, hce1, hce2, fun k hk => ?_⟩
      obtain ⟨cf', kf', fi', f', hi', hsl'⟩ := hS k hk
      have hlk9 := u_lays hts hin hk
      have hap : ∀ {n d : String} {cq : ClassId} {kq : Class} {iq : Nat} {fq : Field} {tyq : FieldType}, s.fieldFound? Bundle.tN n d = some (cq, kq, iq, fq) → parseFieldDescriptor d = some tyq → (T k).2.1 ≠ n → (Cond.lays C Bundle.tN n d).before args s = true → f'.slot ≠ fq.slot := by
        intro n d cq kq iq fq tyq hfq hdq hne hly
        refine u_apart hlk9 (Or.inl hly) hi' hfq ?_
        rw [(State.fieldFound?_type hi' (hty k hk)).1, (State.fieldFound?_type hfq hdq).1]
        exact hne
      have b1 := hap hfd1 (tyq := .object "java/lang/Throwable") (by decide +kernel) (hnmT k hk).1 (hall _ (by simp [exAt]))
      have b2 := hap hfd2 (tyq := .array (.object "java/lang/StackTraceElement")) (by decide +kernel) (hnmT k hk).2.1 (hall _ (by simp [exAt]))
      have b3 := hap hfd3 (tyq := .object "java/util/List") (by decide +kernel) (hnmT k hk).2.2 (hall _ (by simp [exAt]))
      have hs9 : f'.slot = xI g t k := hsl'
      rw [hs9] at b1 b2 b3
      rw [hsl _ b1 b2 b3]
      exact q4 k hk
  obtain ⟨-, -, X2⟩ := st_grown hR0 hRn X'
  rw [hn0, hs0] at X2
  obtain ⟨t2, a1, b1⟩ := kk _ _ ls hRn (fun y hy => by
    rcases List.mem_append.mp hy with h | h
    · exact h2 y h
    · rw [hL' y h, gad_new ha]
      exact Nat.le_add_right _ _) h3 _ rfl X2
  exact ⟨t2, hgo' t2 a1, b1⟩
end RX
