/-! ===== contracts of methods that return or throw; of methods with handlers ===== -/
set_option maxRecDepth 100000
/-- the method's frame, with the cell a thrown over it -/
def VT (K : kX) (G : gH) (pc : Nat) (L : List (Nat × lE)) (st : List lE) (a : Nat) : Prop := match K with
  | (g, nL, n0, s0, p, l, e, R, s, m, args, below, meth, c, Q) =>
    ∀ (H : Heap) (locs : List Loc) (ls : Array Slot), Rep g G H → (∀ q ∈ locs, (xH g).size ≤ q.base) → lv_has ls nL (lL g L) → vy_W p l e R s m args below meth c H locs (gN G - n0) (gS G - s0) Q (F0 m pc ls (lS g st)) (gad g a)
/-- method y, called with av over the heap G, returns (o: inr) or throws (inl) and leaves the heap G1 -/
def CtX (g : gX) (l : Launch) (y : MethodName) (code : ByteArray) (mL : Nat) (ret : Option FieldType) (fr lo xt : Nat) (av : List lE) (G : gH) (o : Nat ⊕ Option lE) (G1 : gH) : Prop :=
  vy_Met l y (ws_ y code mL ret) { frames := fr, cells := LIMC - gN G, slots := LIMS - gS G, locals := lo } (fun v U => v = (av.map (lV g)).toArray ∧ Rep g G U.heap ∧ Cx g U) (fun _ _ oc t => ∃ r, o = .inr r ∧ oc = .returned (r.map (lV g)) ∧ Rep g G1 t.heap) (fun _ q _ t => ∃ a, o = .inl a ∧ q = gad g a ∧ gT G1 a = xt ∧ Rep g G1 t.heap) (LIMC - gN G) (LIMS - gS G) (fun q => (xH g).size ≤ q)
def kEndX (K : kX) (cc : ByteArray) (ret : Option FieldType) (xt : Nat) (o : Nat ⊕ Option lE) (G1 : gH) : Prop := (∀ r, o = .inr r → kEnd K cc ret r G1) ∧ ∀ a, o = .inl a → gT G1 a = xt → ∀ pc L st, VT K G1 pc L st a
set_option maxHeartbeats 4000000 in
theorem CtX.of {g : gX} {l : Launch} {y : MethodName} {code : ByteArray} {mL fr lo xt N : Nat} {E : String} {T : u_T} {ret : Option FieldType} {av : List lE} {G : gH} {o : Nat ⊕ Option lE} {G1 : gH} (hy : plainName y.cls = true) (hav : (av.map lcat).sum ≤ mL) (hct : gcl[xt]? = some (E, T, N)) (h0 : 0 < xt) (h64 : xt < 64)
    (body : ∀ K : kX, kg K = g → kl K = l → K.2.2.2.2.2.2.2.2.2.2.2.2.1.name = y.name → kOk K y.cls code mL fr lo → kEndX K code ret xt o G1 → V K G 0 (la 0 av) []) : CtX g l y code mL ret fr lo xt av G o G1 := by
  refine vy_ofW (cc := code) (maxL := mL) (ret := ret) hy rfl ?_
  intro p e s m args below meth c s₁ B hml hnt hv
  obtain ⟨rfl, hR, hC⟩ := hv
  have hx := B.exec
  have hb := B.bytes
  have hr := B.returns
  have hts := atoms_spec (ws := ws_ y code mL ret) B.pre
  have hts : ∀ w ∈ lw_all, w.before _ s = true := fun w h => hts w (List.mem_cons_of_mem _ h)
  have hown : s.vm.findClass y.cls = some m.cls := findClass_of_methodNamed B.named
  have hlocks := B.notSynchronized
  have hnm : meth.name = y.name := (name_of_methodNamed B.named B.method).1
  have hl := lv_entry (av.map (lV g)) (n := mL) (by rw [lsl_len]; exact hav)
  rw [lg_entry_eq]
  rw [la_eq] at hl
  have key := body (g, mL, gN G, gS G, p, l, e, (headSpec (ws_ y code mL ret) { frames := fr, cells := LIMC - gN G, slots := LIMS - gS G, locals := lo }).room, s, m, (av.map (lV g)).toArray, below, meth, c, vy_MQ below (fun _ _ oc t => ∃ r, o = .inr r ∧ oc = .returned (r.map (lV g)) ∧ Rep g G1 t.heap) (fun _ q _ t => ∃ a, o = .inl a ∧ q = gad g a ∧ gT G1 a = xt ∧ Rep g G1 t.heap) (av.map (lV g)).toArray s (LIMC - gN G) (LIMS - gS G) (fun q => (xH g).size ≤ q)) rfl rfl hnm
    ⟨rfl, hx, hb, hml, hown, hts, hC, hlocks, rfl, rfl, rfl, rfl, G, rfl, rfl, hR⟩ ⟨fun r hor pc L => ⟨fun x x' rt e1 e2 e3 hd => ?_, fun x e1 e2 hd => ?_, fun a rt e1 e2 e3 hd => ?_, fun e1 e2 hd => ?_⟩, fun a hoa hta pc L st => ?_⟩
  · have k9 := key s.heap [] _ hR (fun q h => by cases h) hl
    have z1 : gN G - gN G = 0 := Nat.sub_self _
    have z2 : gS G - gS G = 0 := Nat.sub_self _
    rw [z1, z2] at k9
    exact k9
  · intro H locs ls h1 h2 h3
    subst e1
    subst e2
    refine W.widen (k := LIMC - gN G) (n := LIMS - gS G) (by have := h1.2.2.2.2.2.2.2.2.1; omega) (by have := h1.2.2.2.2.2.2.2.2.2.1; omega) ?_
    exact vy_ret (w_zret hx hb hr e3 (fun t ht hW => ⟨_, hor, rfl, by rw [ht]; exact h1⟩) h2 hd hlocks)
  · intro H locs ls h1 h2 h3
    subst e1
    subst e2
    refine W.widen (k := LIMC - gN G) (n := LIMS - gS G) (by have := h1.2.2.2.2.2.2.2.2.1; omega) (by have := h1.2.2.2.2.2.2.2.2.2.1; omega) ?_
    exact vy_ret (W.lret hx hb hr (fun t ht hW => ⟨_, hor, rfl, by rw [ht]; exact h1⟩) h2 hd)
  · intro H locs ls h1 h2 h3
    subst e1
    subst e3
    refine W.widen (k := LIMC - gN G) (n := LIMS - gS G) (by have := h1.2.2.2.2.2.2.2.2.1; omega) (by have := h1.2.2.2.2.2.2.2.2.2.1; omega) ?_
    refine vy_ret (W.aret (v := grf g a) (rt := rt) hx hb hr ?_ ?_ (fun t ht hW => ⟨_, hor, rfl, by rw [ht]; exact h1⟩) h2 hd)
    · cases rt <;> first | exact absurd e2 (by decide) | exact Or.inl ⟨_, rfl⟩ | exact Or.inr ⟨_, rfl⟩
    · unfold grf
      split
      · exact Or.inl rfl
      · exact Or.inr ⟨_, rfl⟩
  · intro H locs ls h1 h2 h3
    subst e1
    subst e2
    refine W.widen (k := LIMC - gN G) (n := LIMS - gS G) (by have := h1.2.2.2.2.2.2.2.2.1; omega) (by have := h1.2.2.2.2.2.2.2.2.2.1; omega) ?_
    exact vy_ret (W.vret hx hb hr (fun t ht hW => ⟨_, hor, rfl, by rw [ht]; exact h1⟩) h2 hd)
  · intro H locs ls h1 h2 h3
    obtain ⟨cell, q1, q2, q3, -⟩ := h1.obj hta h0 h64
    have hKn := hC.1.1 xt _ hct
    exact vy_out (E := E) (fun x hx9 => (hnt x hx9).elim) hlocks q1 q3 (by rw [q2]; exact hKn.2.1) (fun t ht _ => ⟨a, hoa, rfl, hta, by rw [ht]; exact h1⟩) h2 (by have := h1.2.2.2.2.2.2.2.2.1; omega) (by have := h1.2.2.2.2.2.2.2.2.2.1; omega)
/-- a result: a value and a heap, or a cell that is thrown and a heap -/
def bx {α β : Type} (o : Option ((Nat ⊕ α) × gH)) (k : α → gH → Option β) (kx : Nat → gH → Option β) : Option β := o.bind fun z => match z.1 with
  | .inr v => k v z.2
  | .inl a => kx a z.2
theorem bx_some {α β : Type} {o : Option ((Nat ⊕ α) × gH)} {k : α → gH → Option β} {kx : Nat → gH → Option β} {y : β} (h : bx o k kx = some y) : ∃ w G, o = some (w, G) ∧ (∀ v, w = .inr v → k v G = some y) ∧ ∀ a, w = .inl a → kx a G = some y := by
  cases o with
  | none => cases h
  | some z =>
    obtain ⟨w, G⟩ := z
    refine ⟨w, G, rfl, fun v e => ?_, fun a e => ?_⟩
    · subst e
      exact h
    · subst e
      exact h
theorem bx_r {α β : Type} {o : Option ((Nat ⊕ α) × gH)} {k : α → gH → Option β} {kx : Nat → gH → Option β} {v : α} {G : gH} (h : o = some (.inr v, G)) : bx o k kx = k v G := by
  subst h
  rfl
theorem bx_l {α β : Type} {o : Option ((Nat ⊕ α) × gH)} {k : α → gH → Option β} {kx : Nat → gH → Option β} {a : Nat} {G : gH} (h : o = some (.inl a, G)) : bx o k kx = kx a G := by
  subst h
  rfl
section RT
variable {K : kX} {own : String} {cc : ByteArray} {nL fr lo pc q : Nat} {G : gH} {L : List (Nat × lE)} {st : List lE}
theorem r_athrow {a : Nat} (hK : kOk K own cc nL fr lo) (hd : decode cc pc = .ok (.athrow, 1)) (ha : gT G a ≠ 0) (k : VT K G pc L st a) : V K G pc L (vr a :: st) := by
  obtain ⟨g, nL', n0, s0, p, l, e, R, s, m, args, below, meth, c, Q⟩ := K
  obtain ⟨rfl, hx, hb, -⟩ := hK
  intro H locs ls h1 h2 h3
  have e0 : lS g (vr a :: st) = .ref (gad g a) :: lS g st := by
    rw [lS_cons]
    show grf g a :: _ = _
    rw [grf_ne (h1.pos rfl (Nat.pos_of_ne_zero ha))]
  rw [e0]
  exact vy_athrow hx hb hd (k H locs ls h1 h2 h3)
theorem rt_eqL {L' : List (Nat × lE)} {a : Nat} (hs : ∀ q ∈ L', q ∈ L) (k : VT K G pc L' st a) : VT K G pc L st a := by
  obtain ⟨g, nL', n0, s0, p, l, e, R, s, m, args, below, meth, c, Q⟩ := K
  exact fun H locs ls h1 h2 h3 => k H locs ls h1 h2 (lL_sub h3 hs)
/-- behind a call that returned or threw -/
theorem r_runX {G1 : gH} {o : Nat ⊕ Option lE} {xt : Nat} {rest : List lE} {Qa : State → Outcome → State → Prop} {XC : String → Addr → State → State → Prop} {g : gX} {n0 s0 : Nat} {p : Program} {l : Launch} {e : Env} {R : Room} {s : State} {m : MethodId} {args : Array Value} {below : List Frame} {meth : Method} {c : Code} {Q : State → Prop} {H : Heap} {locs : List Loc} {ls : Array Slot} {cells slots mc ms : Nat} {st0 : List Value} {free : Addr → Prop} {G0 : gH} (hR0 : Rep g G0 s.heap) (hn0 : gN G0 = n0) (hs0 : gS G0 = s0)
    (hr : vy_Run p l e R s m args below meth c H locs cells slots mc ms (F0 m pc ls st0) (lS g rest) Qa XC free) (hQ : ∀ st oc t, Qa st oc t → ∃ r, o = .inr r ∧ oc = .returned (r.map (lV g)) ∧ Rep g G1 t.heap) (hX : ∀ E q st t, XC E q st t → ∃ a, o = .inl a ∧ q = gad g a ∧ gT G1 a = xt ∧ Rep g G1 t.heap) (hfree : ∀ q, free q → (xH g).size ≤ q) (h2 : ∀ q ∈ locs, (xH g).size ≤ q.base) (h3 : lv_has ls nL (lL g L)) (hq : pc + 3 = q)
    (kr : ∀ r, o = .inr r → V (g, nL, n0, s0, p, l, e, R, s, m, args, below, meth, c, Q) G1 q L (r.toList ++ rest)) (kt : ∀ a, o = .inl a → gT G1 a = xt → VT (g, nL, n0, s0, p, l, e, R, s, m, args, below, meth, c, Q) G1 pc L rest a) : W p l e R s m args below meth c H locs cells slots Q (F0 m pc ls st0) := by
  subst hq
  subst hn0
  subst hs0
  intro T hT X
  rcases hr T hT X with ⟨v, st₀, t, T', Lc, e0, X', hL, e1, e2, hQa, hgo⟩ | ⟨q, st₀, t, T', Lc, E, ce, e0, X', hL, e1, e2, hXa, hce, hcv, hcl, hgo⟩
  · obtain ⟨r, hor, hv, hR1⟩ := hQ _ _ _ hQa
    have hv' : v = r.map (lV g) := Outcome.returned.inj hv
    subst hv'
    have hRT : Rep g G1 T'.heap := by rw [e1]; exact hR1
    have X2 := (st_grown hR0 hRT X').2.2
    obtain ⟨t2, a1, b1⟩ := kr r hor T'.heap (locs ++ Lc) ls hRT (fun q hq => by
      rcases List.mem_append.mp hq with h | h
      · exact h2 q h
      · exact hfree _ (hL q h)) h3 T' rfl X2
    refine ⟨t2, hgo t2 ?_, b1⟩
    have e9 : lS g (r.toList ++ rest) = (r.map (lV g)).toList ++ lS g rest := by
      cases r <;> rfl
    rw [e9] at a1
    exact a1
  · obtain ⟨a, hoa, rfl, hta, hR1⟩ := hX _ _ _ _ hXa
    have hRT : Rep g G1 T'.heap := by rw [e1]; exact hR1
    have X2 := (st_grown hR0 hRT X').2.2
    obtain ⟨t2, a1, b1⟩ := kt a hoa hta T'.heap (locs ++ Lc) ls hRT (fun q hq => by
      rcases List.mem_append.mp hq with h | h
      · exact h2 q h
      · exact hfree _ (hL q h)) h3 T' rfl X2
    exact ⟨t2, hgo.trans a1, b1⟩
set_option maxHeartbeats 4000000 in
theorem r_callVX {y : MethodName} {code : ByteArray} {mL fr' lo' idx t a N n : Nat} {ret : Option FieldType} {C : String} {T : u_T} {As rest : List lE} {o : Nat ⊕ Option lE} {xt : Nat} {G1 : gH} (hK : kOk K own cc nL fr lo) (hd : decode cc pc = .ok (.invokevirtual idx, 3)) (hC : CtX (kg K) (kl K) y code mL ret fr' lo' xt (vr a :: As) G o G1)
    (hw : GoodIn lw_all (wsV own idx C y (ws_ y code mL ret))) (hds : y.cls = C ∧ y.cls ≠ "java/lang/invoke/MethodHandle" ∧ y.cls ≠ "java/lang/invoke/VarHandle" ∧ (parseMethodDescriptor y.desc).map (fun d => d.parameters.length) = some n) (hn : As.length = n) (hc : gcl[t]? = some (C, T, N)) (h0 : 0 < t) (h64 : t < 64) (ht : gT G a = t)
    (hrm : fr' + 1 ≤ fr ∧ 8 + (mL + 11) + lo' ≤ lo) (hst : st = As.reverse ++ vr a :: rest) (h8 : (rest.map lcat).sum ≤ 8) (hq : pc + 3 = q) (kr : ∀ r, o = .inr r → V K G1 q L (r.toList ++ rest)) (kt : ∀ a, o = .inl a → gT G1 a = xt → VT K G1 pc L rest a) : V K G pc L st := by
  obtain ⟨g, nL', n0, s0, p, l, e, R, s, m, args, below, meth, c, Q⟩ := K
  obtain ⟨rfl, hx, hb, hml, hown, hts, hCx, hlk, hf1, hf2, hRc, hRs, G0, hn0, hs0, hR0⟩ := hK
  subst hst
  intro H locs ls h1 h2 h3 T9 hT9 X9
  obtain ⟨g1, g2, -⟩ := st_grown hR0 (by rw [hT9]; exact h1) X9
  obtain ⟨cell, q1, q2, q3, q4⟩ := h1.obj ht h0 h64
  have hKn := hCx.1.1 t _ hc
  have hmax := h1.2.2.2.2.2.2.2.2.1
  have hmax2 := h1.2.2.2.2.2.2.2.2.2.1
  have e0 : lS g (As.reverse ++ vr a :: rest) = (lS g As).reverse ++ .ref (gad g a) :: lS g rest := by
    rw [lS_app, lS_rev, lS_cons]
    show _ ++ grf g a :: _ = _
    rw [grf_ne (h1.pos ht h0)]
  rw [e0]
  refine r_runX (xt := xt) (free := fun q => (xH g).size ≤ q) hR0 hn0 hs0 (vy_runV (As := lS g As) (rest := lS g rest) ⟨hx, hb, hml, hown, hts⟩ hC (cwV n hts hw rfl rfl rfl hds ⟨by rw [hf1]; exact hrm.1, by rw [hf2]; exact hrm.2⟩) ⟨ct_blind, ⟨cell, q1, by rw [q3]; rfl, by rw [q2]; exact hKn.2.1⟩, fun U hU hW => ⟨?_, by rw [hU]; exact h1, hCx.warm hW⟩⟩ rfl (by unfold lS; rw [List.length_map]; exact hn) h3.1 rfl ?_ hd ⟨?_, ?_⟩) (fun _ _ _ h => h) (fun _ _ _ _ h => h) (fun q h => h) h2 h3 hq kr kt T9 hT9 X9
  · show (Value.ref (gad g a) :: lS g As).toArray = (grf g a :: As.map (lV g)).toArray
    rw [grf_ne (h1.pos ht h0)]
    rfl
  · exact lv_room (by rw [lS_sum]; exact h8)
  · rw [hRc, ← hn0]; omega
  · rw [hRs, ← hs0]; omega
set_option maxHeartbeats 4000000 in
theorem r_callSX {y : MethodName} {code : ByteArray} {mL fr' lo' idx n : Nat} {ret : Option FieldType} {As rest : List lE} {o : Nat ⊕ Option lE} {xt : Nat} {G1 : gH} (hK : kOk K own cc nL fr lo) (hd : decode cc pc = .ok (.invokestatic idx, 3)) (hC : CtX (kg K) (kl K) y code mL ret fr' lo' xt As G o G1)
    (hw : GoodIn lw_all (va_wsS own idx y (ws_ y code mL ret))) (hds : y.cls ≠ "java/lang/invoke/MethodHandle" ∧ y.cls ≠ "java/lang/invoke/VarHandle" ∧ (parseMethodDescriptor y.desc).map (fun d => d.parameters.length) = some n) (hn : As.length = n)
    (hrm : fr' + 1 ≤ fr ∧ 8 + (mL + 11) + lo' ≤ lo) (hst : st = As.reverse ++ rest) (h8 : (rest.map lcat).sum ≤ 8) (hq : pc + 3 = q) (kr : ∀ r, o = .inr r → V K G1 q L (r.toList ++ rest)) (kt : ∀ a, o = .inl a → gT G1 a = xt → VT K G1 pc L rest a) : V K G pc L st := by
  obtain ⟨g, nL', n0, s0, p, l, e, R, s, m, args, below, meth, c, Q⟩ := K
  obtain ⟨rfl, hx, hb, hml, hown, hts, hCx, hlk, hf1, hf2, hRc, hRs, G0, hn0, hs0, hR0⟩ := hK
  subst hst
  intro H locs ls h1 h2 h3 T9 hT9 X9
  obtain ⟨g1, g2, -⟩ := st_grown hR0 (by rw [hT9]; exact h1) X9
  have hmax := h1.2.2.2.2.2.2.2.2.1
  have hmax2 := h1.2.2.2.2.2.2.2.2.2.1
  have e0 : lS g (As.reverse ++ rest) = (lS g As).reverse ++ lS g rest := by
    rw [lS_app, lS_rev]
  rw [e0]
  refine r_runX (xt := xt) (free := fun q => (xH g).size ≤ q) hR0 hn0 hs0 (vy_runS (As := lS g As) (rest := lS g rest) ⟨hx, hb, hml, hown, hts⟩ hC (va_cwS n hts hw rfl rfl rfl hds ⟨by rw [hf1]; exact hrm.1, by rw [hf2]; exact hrm.2⟩) ⟨ct_blind, fun U hU hW => ⟨rfl, by rw [hU]; exact h1, hCx.warm hW⟩⟩ rfl (by unfold lS; rw [List.length_map]; exact hn) h3.1 rfl ?_ hd ⟨?_, ?_⟩) (fun _ _ _ h => h) (fun _ _ _ _ h => h) (fun q h => h) h2 h3 hq kr kt T9 hT9 X9
  · exact lv_room (by rw [lS_sum]; exact h8)
  · rw [hRc, ← hn0]; omega
  · rw [hRs, ← hs0]; omega
set_option maxHeartbeats 4000000 in
theorem r_callIX {y : MethodName} {code : ByteArray} {mL fr' lo' idx a n : Nat} {As rest : List lE} {o : Nat ⊕ Option lE} {xt : Nat} {G1 : gH} (hK : kOk K own cc nL fr lo) (hd : decode cc pc = .ok (.invokespecial idx, 3)) (hC : CtX (kg K) (kl K) y code mL none fr' lo' xt (vr a :: As) G o G1)
    (hw : Cond.code y code mL none ∈ lw_all) (hini : Cond.initialized y.cls ∈ lw_all) (hlk0 : Cond.methodLink own idx y ∈ lw_all) (him : Cond.instanceMethod y ∈ lw_all) (hnm : y.name = "<init>") (hds : y.cls ≠ "java/lang/invoke/MethodHandle" ∧ y.cls ≠ "java/lang/invoke/VarHandle" ∧ (parseMethodDescriptor y.desc).map (fun d => d.parameters.length) = some n) (hn : As.length = n) (ha : gT G a ≠ 0)
    (hrm : fr' + 1 ≤ fr ∧ 8 + (mL + 11) + lo' ≤ lo) (hst : st = As.reverse ++ vr a :: rest) (h8 : (rest.map lcat).sum ≤ 8) (hq : pc + 3 = q) (kr : ∀ r, o = .inr r → V K G1 q L (r.toList ++ rest)) (kt : ∀ a, o = .inl a → gT G1 a = xt → VT K G1 pc L rest a) : V K G pc L st := by
  obtain ⟨g, nL', n0, s0, p, l, e, R, s, m, args, below, meth, c, Q⟩ := K
  obtain ⟨rfl, hx, hb, hml, hown, hts, hCx, hlk, hf1, hf2, hRc, hRs, G0, hn0, hs0, hR0⟩ := hK
  subst hst
  intro H locs ls h1 h2 h3 T9 hT9 X9
  obtain ⟨g1, g2, -⟩ := st_grown hR0 (by rw [hT9]; exact h1) X9
  have hmax := h1.2.2.2.2.2.2.2.2.1
  have hmax2 := h1.2.2.2.2.2.2.2.2.2.1
  have e0 : lS g (As.reverse ++ vr a :: rest) = (lS g As).reverse ++ .ref (gad g a) :: lS g rest := by
    rw [lS_app, lS_rev, lS_cons]
    show _ ++ grf g a :: _ = _
    rw [grf_ne (h1.pos rfl (Nat.pos_of_ne_zero ha))]
  rw [e0]
  refine r_runX (xt := xt) (free := fun q => (xH g).size ≤ q) hR0 hn0 hs0 (vy_runI (b := gad g a) (As := lS g As) (rest := lS g rest) ⟨hx, hb, hml, hown, hts⟩ hC (cwI n hts (lw_meth hw) rfl rfl rfl (hts _ hini) (hts _ hlk0) (hts _ him) hnm hds ⟨by rw [hf1]; exact hrm.1, by rw [hf2]; exact hrm.2⟩) ⟨ct_blind, fun U hU hW => ⟨?_, by rw [hU]; exact h1, hCx.warm hW⟩⟩ rfl (by unfold lS; rw [List.length_map]; exact hn) h3.1 rfl ?_ hd ⟨?_, ?_⟩) (fun _ _ _ h => h) (fun _ _ _ _ h => h) (fun q h => h) h2 h3 hq kr kt T9 hT9 X9
  · show (Value.ref (gad g a) :: lS g As).toArray = (grf g a :: As.map (lV g)).toArray
    rw [grf_ne (h1.pos rfl (Nat.pos_of_ne_zero ha))]
    rfl
  · exact lv_room (by rw [lS_sum]; exact h8)
  · rw [hRc, ← hn0]; omega
  · rw [hRs, ← hs0]; omega
set_option maxHeartbeats 4000000 in
theorem r_callVNX {y : MethodName} {code : ByteArray} {mL fr' lo' idx t a N n : Nat} {ret : Option FieldType} {C host : String} {T : u_T} {As rest : List lE} {o : Nat ⊕ Option lE} {xt : Nat} {G1 : gH} (hK : kOk K own cc nL fr lo) (hd : decode cc pc = .ok (.invokevirtual idx, 3)) (hC : CtX (kg K) (kl K) y code mL ret fr' lo' xt (vr a :: As) G o G1)
    (hlkn : Cond.methodLinkNest own idx y host ∈ lw_tbl) (him : Cond.instanceMethod y ∈ lw_all) (hsl : Cond.selects C y y ∈ lw_all) (hini : Cond.initialized y.cls ∈ lw_all) (hcd : Cond.code y code mL ret ∈ lw_all) (hds : y.cls ≠ "java/lang/invoke/MethodHandle" ∧ y.cls ≠ "java/lang/invoke/VarHandle" ∧ (parseMethodDescriptor y.desc).map (fun d => d.parameters.length) = some n) (hn : As.length = n) (hc : gcl[t]? = some (C, T, N)) (h0 : 0 < t) (h64 : t < 64) (ht : gT G a = t)
    (hrm : fr' + 1 ≤ fr ∧ 8 + (mL + 11) + lo' ≤ lo) (hst : st = As.reverse ++ vr a :: rest) (h8 : (rest.map lcat).sum ≤ 8) (hq : pc + 3 = q) (kr : ∀ r, o = .inr r → V K G1 q L (r.toList ++ rest)) (kt : ∀ a, o = .inl a → gT G1 a = xt → VT K G1 pc L rest a) : V K G pc L st := by
  obtain ⟨g, nL', n0, s0, p, l, e, R, s, m, args, below, meth, c, Q⟩ := K
  obtain ⟨rfl, hx, hb, hml, hown, hts, hCx, hlk, hf1, hf2, hRc, hRs, G0, hn0, hs0, hR0⟩ := hK
  subst hst
  intro H locs ls h1 h2 h3 T9 hT9 X9
  obtain ⟨g1, g2, -⟩ := st_grown hR0 (by rw [hT9]; exact h1) X9
  obtain ⟨cell, q1, q2, q3, q4⟩ := h1.obj ht h0 h64
  have hKn := hCx.1.1 t _ hc
  have hmax := h1.2.2.2.2.2.2.2.2.1
  have hmax2 := h1.2.2.2.2.2.2.2.2.2.1
  have e0 : lS g (As.reverse ++ vr a :: rest) = (lS g As).reverse ++ .ref (gad g a) :: lS g rest := by
    rw [lS_app, lS_rev, lS_cons]
    show _ ++ grf g a :: _ = _
    rw [grf_ne (h1.pos ht h0)]
  rw [e0]
  refine r_runX (xt := xt) (free := fun q => (xH g).size ≤ q) hR0 hn0 hs0 (vy_runVN (As := lS g As) (rest := lS g rest) ⟨hx, hb, hml, hown, hts⟩ hC ⟨va_cnB n hts (lw_meth hcd) rfl rfl rfl (hCx.2.1 _ hlkn rfl) (hts _ hini) hds ⟨by rw [hf1]; exact hrm.1, by rw [hf2]; exact hrm.2⟩, hts _ him, hts _ hsl⟩ ⟨ct_blind, ⟨cell, q1, by rw [q3]; rfl, by rw [q2]; exact hKn.2.1⟩, fun U hU hW => ⟨?_, by rw [hU]; exact h1, hCx.warm hW⟩⟩ rfl (by unfold lS; rw [List.length_map]; exact hn) h3.1 rfl ?_ hd ⟨?_, ?_⟩) (fun _ _ _ h => h) (fun _ _ _ _ h => h) (fun q h => h) h2 h3 hq kr kt T9 hT9 X9
  · show (Value.ref (gad g a) :: lS g As).toArray = (grf g a :: As.map (lV g)).toArray
    rw [grf_ne (h1.pos ht h0)]
    rfl
  · exact lv_room (by rw [lS_sum]; exact h8)
  · rw [hRc, ← hn0]; omega
  · rw [hRs, ← hs0]; omega
set_option maxHeartbeats 4000000 in
theorem r_callSNX {y : MethodName} {code : ByteArray} {mL fr' lo' idx n : Nat} {ret : Option FieldType} {host : String} {As rest : List lE} {o : Nat ⊕ Option lE} {xt : Nat} {G1 : gH} (hK : kOk K own cc nL fr lo) (hd : decode cc pc = .ok (.invokestatic idx, 3)) (hC : CtX (kg K) (kl K) y code mL ret fr' lo' xt As G o G1)
    (hlkn : Cond.methodLinkNest own idx y host ∈ lw_tbl) (hsc : Cond.static y ∈ lw_all) (hini : Cond.initialized y.cls ∈ lw_all) (hcd : Cond.code y code mL ret ∈ lw_all) (hds : y.cls ≠ "java/lang/invoke/MethodHandle" ∧ y.cls ≠ "java/lang/invoke/VarHandle" ∧ (parseMethodDescriptor y.desc).map (fun d => d.parameters.length) = some n) (hn : As.length = n)
    (hrm : fr' + 1 ≤ fr ∧ 8 + (mL + 11) + lo' ≤ lo) (hst : st = As.reverse ++ rest) (h8 : (rest.map lcat).sum ≤ 8) (hq : pc + 3 = q) (kr : ∀ r, o = .inr r → V K G1 q L (r.toList ++ rest)) (kt : ∀ a, o = .inl a → gT G1 a = xt → VT K G1 pc L rest a) : V K G pc L st := by
  obtain ⟨g, nL', n0, s0, p, l, e, R, s, m, args, below, meth, c, Q⟩ := K
  obtain ⟨rfl, hx, hb, hml, hown, hts, hCx, hlk, hf1, hf2, hRc, hRs, G0, hn0, hs0, hR0⟩ := hK
  subst hst
  intro H locs ls h1 h2 h3 T9 hT9 X9
  obtain ⟨g1, g2, -⟩ := st_grown hR0 (by rw [hT9]; exact h1) X9
  have hmax := h1.2.2.2.2.2.2.2.2.1
  have hmax2 := h1.2.2.2.2.2.2.2.2.2.1
  have e0 : lS g (As.reverse ++ rest) = (lS g As).reverse ++ lS g rest := by
    rw [lS_app, lS_rev]
  rw [e0]
  refine r_runX (xt := xt) (free := fun q => (xH g).size ≤ q) hR0 hn0 hs0 (vy_runSN (As := lS g As) (rest := lS g rest) ⟨hx, hb, hml, hown, hts⟩ hC ⟨va_cnB n hts (lw_meth hcd) rfl rfl rfl (hCx.2.1 _ hlkn rfl) (hts _ hini) hds ⟨by rw [hf1]; exact hrm.1, by rw [hf2]; exact hrm.2⟩, hts _ hsc, trivial⟩ ⟨ct_blind, fun U hU hW => ⟨rfl, by rw [hU]; exact h1, hCx.warm hW⟩⟩ rfl (by unfold lS; rw [List.length_map]; exact hn) h3.1 rfl ?_ hd ⟨?_, ?_⟩) (fun _ _ _ h => h) (fun _ _ _ _ h => h) (fun q h => h) h2 h3 hq kr kt T9 hT9 X9
  · exact lv_room (by rw [lS_sum]; exact h8)
  · rw [hRc, ← hn0]; omega
  · rw [hRs, ← hs0]; omega
set_option maxHeartbeats 4000000 in
theorem r_callUX {x y : MethodName} {code : ByteArray} {mL fr' lo' idx t a N n : Nat} {ret : Option FieldType} {C owner : String} {T : u_T} {As rest : List lE} {o : Nat ⊕ Option lE} {xt : Nat} {G1 : gH} (hK : kOk K own cc nL fr lo) (hd : decode cc pc = .ok (.invokevirtual idx, 3)) (hC : CtX (kg K) (kl K) y code mL ret fr' lo' xt (vr a :: As) G o G1)
    (hw : GoodIn lw_all (va_wsU own idx C owner x y (ws_ y code mL ret))) (hyx : y = ⟨owner, x.name, x.desc⟩) (hds : owner ≠ "java/lang/invoke/MethodHandle" ∧ owner ≠ "java/lang/invoke/VarHandle" ∧ (parseMethodDescriptor x.desc).map (fun d => d.parameters.length) = some n) (hn : As.length = n) (hc : gcl[t]? = some (C, T, N)) (h0 : 0 < t) (h64 : t < 64) (ht : gT G a = t)
    (hrm : fr' + 1 ≤ fr ∧ 8 + (mL + 11) + lo' ≤ lo) (hst : st = As.reverse ++ vr a :: rest) (h8 : (rest.map lcat).sum ≤ 8) (hq : pc + 3 = q) (kr : ∀ r, o = .inr r → V K G1 q L (r.toList ++ rest)) (kt : ∀ a, o = .inl a → gT G1 a = xt → VT K G1 pc L rest a) : V K G pc L st := by
  obtain ⟨g, nL', n0, s0, p, l, e, R, s, m, args, below, meth, c, Q⟩ := K
  obtain ⟨rfl, hx, hb, hml, hown, hts, hCx, hlk, hf1, hf2, hRc, hRs, G0, hn0, hs0, hR0⟩ := hK
  subst hst
  intro H locs ls h1 h2 h3 T9 hT9 X9
  obtain ⟨g1, g2, -⟩ := st_grown hR0 (by rw [hT9]; exact h1) X9
  obtain ⟨cell, q1, q2, q3, q4⟩ := h1.obj ht h0 h64
  have hKn := hCx.1.1 t _ hc
  have hmax := h1.2.2.2.2.2.2.2.2.1
  have hmax2 := h1.2.2.2.2.2.2.2.2.2.1
  have e0 : lS g (As.reverse ++ vr a :: rest) = (lS g As).reverse ++ .ref (gad g a) :: lS g rest := by
    rw [lS_app, lS_rev, lS_cons]
    show _ ++ grf g a :: _ = _
    rw [grf_ne (h1.pos ht h0)]
  rw [e0]
  refine r_runX (xt := xt) (free := fun q => (xH g).size ≤ q) hR0 hn0 hs0 (vy_runU (As := lS g As) (rest := lS g rest) ⟨hx, hb, hml, hown, hts⟩ hC (va_cwU n hts hw rfl rfl rfl hyx hds ⟨by rw [hf1]; exact hrm.1, by rw [hf2]; exact hrm.2⟩) ⟨ct_blind, ⟨cell, q1, by rw [q3]; rfl, by rw [q2]; exact hKn.2.1⟩, fun U hU hW => ⟨?_, by rw [hU]; exact h1, hCx.warm hW⟩⟩ rfl (by unfold lS; rw [List.length_map]; exact hn) h3.1 rfl ?_ hd ⟨?_, ?_⟩) (fun _ _ _ h => h) (fun _ _ _ _ h => h) (fun q h => h) h2 h3 hq kr kt T9 hT9 X9
  · show (Value.ref (gad g a) :: lS g As).toArray = (grf g a :: As.map (lV g)).toArray
    rw [grf_ne (h1.pos ht h0)]
    rfl
  · exact lv_room (by rw [lS_sum]; exact h8)
  · rw [hRc, ← hn0]; omega
  · rw [hRs, ← hs0]; omega
/-- the method's table of handlers -/
def kTab (K : kX) (hh : List (Nat × Nat × Nat × Nat)) : Prop := K.2.2.2.2.2.2.2.2.2.2.2.2.2.1.exceptionTable.toList = tableOf hh
theorem r_catch {a b1 e1 h1p ct t N : Nat} {E nm : String} {T : u_T} (hK : kOk K own cc nL fr lo) (htab : kTab K [(b1, e1, h1p, ct)]) (hcov : covers ⟨b1, e1, h1p, ct⟩ pc = true) (hct : ct ≠ 0) (hlink : Cond.classLink own ct nm ∈ lw_all) (hcast : Cond.castable E nm ∈ lw_tbl) (hc : gcl[t]? = some (E, T, N)) (h0 : 0 < t) (h64 : t < 64) (ht : gT G a = t) (kk : V K G h1p L [vr a]) : VT K G pc L st a := by
  obtain ⟨g, nL', n0, s0, p, l, e, R, s, m, args, below, meth, c, Q⟩ := K
  obtain ⟨rfl, hx, hb, hml, hown, hts, hCx, -⟩ := hK
  intro H locs ls h1 h2 h3
  obtain ⟨cell, q1, q2, q3, -⟩ := h1.obj ht h0 h64
  have hKn := hCx.1.1 t _ hc
  have k9 := kk H locs ls h1 h2 h3
  have e9 : lS g [vr a] = [.ref (gad g a)] := by
    rw [lS_cons]
    show grf g a :: _ = _
    rw [grf_ne (h1.pos ht h0)]
    rfl
  rw [e9] at k9
  exact vy_catch (E := E) hown [] ⟨b1, e1, h1p, ct⟩ [] htab (fun z hz => by cases hz) hcov hct (hts _ hlink) (va_Nw.use rfl (hCx.2.1 _ hcast rfl)) q1 q3 (by rw [q2]; exact hKn.2.1) k9
end RT
/-- a contract of a method with handlers that returns -/
def CtW (g : gX) (l : Launch) (y : MethodName) (code : ByteArray) (mL : Nat) (ret : Option FieldType) (hh : List (Nat × Nat × Nat × Nat)) (fr lo : Nat) (av : List lE) (G : gH) (r : Option lE) (G1 : gH) : Prop :=
  Met l y (wsW_ y code mL ret hh) { frames := fr, cells := LIMC - gN G, slots := LIMS - gS G, locals := lo } (fun v U => v = (av.map (lV g)).toArray ∧ Rep g G U.heap ∧ Cx g U) (fun _ _ oc t => oc = .returned (r.map (lV g)) ∧ Rep g G1 t.heap) (LIMC - gN G) (LIMS - gS G) (fun q => (xH g).size ≤ q)
theorem met_ofWH {l : Launch} {y : MethodName} {ws ws' : List Cond} {rm : Room} {Pc : Array Value → State → Prop} {Qc : Array Value → State → Outcome → State → Prop} {mc ms : Nat} {free : Addr → Prop} {cc : ByteArray} {maxL : Nat} {ret : Option FieldType} {hh : List (Nat × Nat × Nat × Nat)}
    (hy : plainName y.cls = true) (hw : ws = Cond.codeWith y cc maxL ret hh :: ws')
    (body : ∀ p e s m args below meth c s₁, BodyLoose p l y (headSpec ws rm) cc maxL ret e s m args below meth c s₁ → c.maxLocals = maxL → c.exceptionTable.toList = tableOf hh → Pc args s →
      W p l e (headSpec ws rm).room s m args below meth c s.heap [] 0 0 (MQ below Qc args s mc ms free) (entryFrame m args maxL)) : Met l y ws rm Pc Qc mc ms free := by
  refine MetFree.of_bodyS (code := cc) (maxLocals := maxL) (ret := ret) hy ?_ ?_
  · intro args s m h hn
    obtain ⟨m9, meth, c, hn9, h1, h2, h3, h4, -, h5, h6, -⟩ := Cond.codeWith_spec (atoms_spec (ws := ws) h _ (by rw [hw]; exact List.mem_cons_self))
    cases hn.symm.trans hn9
    exact ⟨meth, c, h1, h2, h3, h4, h5, h6⟩
  · intro p e s m args below meth c s₁ B hml hP _
    have hh0 : s₁.heap = s.heap := by rw [B.state]; rfl
    have ht := vy_table (x := y) B (atoms_spec (ws := ws) B.pre _ (by rw [hw]; exact List.mem_cons_self))
    obtain ⟨t, a1, o, b1, b2, b3⟩ := body p e s m args below meth c s₁ B hml ht hP s₁ hh0 (Stand.of_body B)
    exact ⟨t, o, a1, b1, b2, ⟨b3.1, b3.2⟩⟩
set_option maxHeartbeats 4000000 in
theorem CtW.of {g : gX} {l : Launch} {y : MethodName} {code : ByteArray} {mL fr lo : Nat} {ret : Option FieldType} {hh : List (Nat × Nat × Nat × Nat)} {av : List lE} {G : gH} {r : Option lE} {G1 : gH} (hy : plainName y.cls = true) (hav : (av.map lcat).sum ≤ mL)
    (body : ∀ K : kX, kg K = g → kl K = l → K.2.2.2.2.2.2.2.2.2.2.2.2.1.name = y.name → kOk K y.cls code mL fr lo → kTab K hh → kEnd K code ret r G1 → V K G 0 (la 0 av) []) : CtW g l y code mL ret hh fr lo av G r G1 := by
  refine met_ofWH (hh := hh) (cc := code) (maxL := mL) (ret := ret) hy rfl ?_
  intro p e s m args below meth c s₁ B hml htab hv
  obtain ⟨rfl, hR, hC⟩ := hv
  have hx := B.exec
  have hb := B.bytes
  have hr := B.returns
  have hts := atoms_spec (ws := wsW_ y code mL ret hh) B.pre
  have hts : ∀ w ∈ lw_all, w.before _ s = true := fun w h => hts w (List.mem_cons_of_mem _ h)
  have hown : s.vm.findClass y.cls = some m.cls := findClass_of_methodNamed B.named
  have hlocks := B.notSynchronized
  have hnm : meth.name = y.name := (name_of_methodNamed B.named B.method).1
  have hl := lv_entry (av.map (lV g)) (n := mL) (by rw [lsl_len]; exact hav)
  rw [lg_entry_eq]
  rw [la_eq] at hl
  have hroom : (headSpec (wsW_ y code mL ret hh) { frames := fr, cells := LIMC - gN G, slots := LIMS - gS G, locals := lo }).room = { frames := fr, cells := LIMC - gN G, slots := LIMS - gS G, locals := lo } := rfl
  have hR9 : 64 ≤ gN G := hR.1
  have key := body (g, mL, gN G, gS G, p, l, e, (headSpec (wsW_ y code mL ret hh) { frames := fr, cells := LIMC - gN G, slots := LIMS - gS G, locals := lo }).room, s, m, (av.map (lV g)).toArray, below, meth, c, MQ below (fun _ _ oc t => oc = .returned (r.map (lV g)) ∧ Rep g G1 t.heap) (av.map (lV g)).toArray s (LIMC - gN G) (LIMS - gS G) (fun q => (xH g).size ≤ q)) rfl rfl hnm
    ⟨rfl, hx, hb, hml, hown, hts, hC, hlocks, rfl, rfl, rfl, rfl, G, rfl, rfl, hR⟩ htab (fun pc L => ⟨fun x x' rt e1 e2 e3 hd => ?_, fun x e1 e2 hd => ?_, fun a rt e1 e2 e3 hd => ?_, fun e1 e2 hd => ?_⟩)
  · have k9 := key s.heap [] _ hR (fun q h => by cases h) hl
    have z1 : gN G - gN G = 0 := Nat.sub_self _
    have z2 : gS G - gS G = 0 := Nat.sub_self _
    rw [z1, z2] at k9
    exact k9
  · intro H locs ls h1 h2 h3
    subst e1
    subst e2
    refine W.widen (k := LIMC - gN G) (n := LIMS - gS G) (by have := h1.2.2.2.2.2.2.2.2.1; omega) (by have := h1.2.2.2.2.2.2.2.2.2.1; omega) ?_
    exact w_zret hx hb hr e3 (fun t ht hW => ⟨rfl, by rw [ht]; exact h1⟩) h2 hd hlocks
  · intro H locs ls h1 h2 h3
    subst e1
    subst e2
    refine W.widen (k := LIMC - gN G) (n := LIMS - gS G) (by have := h1.2.2.2.2.2.2.2.2.1; omega) (by have := h1.2.2.2.2.2.2.2.2.2.1; omega) ?_
    exact W.lret hx hb hr (fun t ht hW => ⟨rfl, by rw [ht]; exact h1⟩) h2 hd
  · intro H locs ls h1 h2 h3
    subst e1
    subst e3
    refine W.widen (k := LIMC - gN G) (n := LIMS - gS G) (by have := h1.2.2.2.2.2.2.2.2.1; omega) (by have := h1.2.2.2.2.2.2.2.2.2.1; omega) ?_
    refine W.aret (v := grf g a) (rt := rt) hx hb hr ?_ ?_ (fun t ht hW => ⟨rfl, by rw [ht]; exact h1⟩) h2 hd
    · cases rt <;> first | exact absurd e2 (by decide) | exact Or.inl ⟨_, rfl⟩ | exact Or.inr ⟨_, rfl⟩
    · unfold grf
      split
      · exact Or.inl rfl
      · exact Or.inr ⟨_, rfl⟩
  · intro H locs ls h1 h2 h3
    subst e1
    subst e2
    refine W.widen (k := LIMC - gN G) (n := LIMS - gS G) (by have := h1.2.2.2.2.2.2.2.2.1; omega) (by have := h1.2.2.2.2.2.2.2.2.2.1; omega) ?_
    exact W.vret hx hb hr (fun t ht hW => ⟨rfl, by rw [ht]; exact h1⟩) h2 hd
section RW
variable {K : kX} {own : String} {cc : ByteArray} {nL fr lo pc q : Nat} {G : gH} {L : List (Nat × lE)} {st : List lE}
set_option maxHeartbeats 4000000 in
theorem r_callVW {y : MethodName} {code : ByteArray} {mL fr' lo' idx t a N n : Nat} {ret : Option FieldType} {hh : List (Nat × Nat × Nat × Nat)} {C : String} {T : u_T} {As rest : List lE} {r : Option lE} {G1 : gH} (hK : kOk K own cc nL fr lo) (hd : decode cc pc = .ok (.invokevirtual idx, 3)) (hC : CtW (kg K) (kl K) y code mL ret hh fr' lo' (vr a :: As) G r G1)
    (hw : GoodIn lw_all (wsV own idx C y (wsW_ y code mL ret hh))) (hds : y.cls = C ∧ y.cls ≠ "java/lang/invoke/MethodHandle" ∧ y.cls ≠ "java/lang/invoke/VarHandle" ∧ (parseMethodDescriptor y.desc).map (fun d => d.parameters.length) = some n) (hn : As.length = n) (hc : gcl[t]? = some (C, T, N)) (h0 : 0 < t) (h64 : t < 64) (ht : gT G a = t)
    (hrm : fr' + 1 ≤ fr ∧ 8 + (mL + 11) + lo' ≤ lo) (hst : st = As.reverse ++ vr a :: rest) (h8 : (rest.map lcat).sum ≤ 8) (hq : pc + 3 = q) (kk : V K G1 q L (r.toList ++ rest)) : V K G pc L st := by
  obtain ⟨g, nL', n0, s0, p, l, e, R, s, m, args, below, meth, c, Q⟩ := K
  obtain ⟨rfl, hx, hb, hml, hown, hts, hCx, hlk, hf1, hf2, hRc, hRs, G0, hn0, hs0, hR0⟩ := hK
  subst hst
  intro H locs ls h1 h2 h3 T9 hT9 X9
  obtain ⟨g1, g2, -⟩ := st_grown hR0 (by rw [hT9]; exact h1) X9
  obtain ⟨cell, q1, q2, q3, q4⟩ := h1.obj ht h0 h64
  have hKn := hCx.1.1 t _ hc
  have hmax := h1.2.2.2.2.2.2.2.2.1
  have hmax2 := h1.2.2.2.2.2.2.2.2.2.1
  have e0 : lS g (As.reverse ++ vr a :: rest) = (lS g As).reverse ++ .ref (gad g a) :: lS g rest := by
    rw [lS_app, lS_rev, lS_cons]
    show _ ++ grf g a :: _ = _
    rw [grf_ne (h1.pos ht h0)]
  rw [e0]
  refine r_run (free := fun q => (xH g).size ≤ q) hR0 hn0 hs0 (vy_runVW (hh := hh) (As := lS g As) (rest := lS g rest) ⟨hx, hb, hml, hown, hts⟩ hC (vy_cwVW n hts hw rfl rfl rfl hds ⟨by rw [hf1]; exact hrm.1, by rw [hf2]; exact hrm.2⟩) ⟨ct_blind, ⟨cell, q1, by rw [q3]; rfl, by rw [q2]; exact hKn.2.1⟩, fun U hU hW => ⟨?_, by rw [hU]; exact h1, hCx.warm hW⟩⟩ rfl (by unfold lS; rw [List.length_map]; exact hn) h3.1 rfl ?_ hd ⟨?_, ?_⟩) (fun _ _ _ h => h) (fun q h => h) h2 h3 hq kk T9 hT9 X9
  · show (Value.ref (gad g a) :: lS g As).toArray = (grf g a :: As.map (lV g)).toArray
    rw [grf_ne (h1.pos ht h0)]
    rfl
  · exact lv_room (by rw [lS_sum]; exact h8)
  · rw [hRc, ← hn0]; omega
  · rw [hRs, ← hs0]; omega
set_option maxHeartbeats 4000000 in
theorem r_callSW {y : MethodName} {code : ByteArray} {mL fr' lo' idx n : Nat} {ret : Option FieldType} {hh : List (Nat × Nat × Nat × Nat)} {As rest : List lE} {r : Option lE} {G1 : gH} (hK : kOk K own cc nL fr lo) (hd : decode cc pc = .ok (.invokestatic idx, 3)) (hC : CtW (kg K) (kl K) y code mL ret hh fr' lo' As G r G1)
    (hw : GoodIn lw_all (va_wsS own idx y (wsW_ y code mL ret hh))) (hds : y.cls ≠ "java/lang/invoke/MethodHandle" ∧ y.cls ≠ "java/lang/invoke/VarHandle" ∧ (parseMethodDescriptor y.desc).map (fun d => d.parameters.length) = some n) (hn : As.length = n)
    (hrm : fr' + 1 ≤ fr ∧ 8 + (mL + 11) + lo' ≤ lo) (hst : st = As.reverse ++ rest) (h8 : (rest.map lcat).sum ≤ 8) (hq : pc + 3 = q) (kk : V K G1 q L (r.toList ++ rest)) : V K G pc L st := by
  obtain ⟨g, nL', n0, s0, p, l, e, R, s, m, args, below, meth, c, Q⟩ := K
  obtain ⟨rfl, hx, hb, hml, hown, hts, hCx, hlk, hf1, hf2, hRc, hRs, G0, hn0, hs0, hR0⟩ := hK
  subst hst
  intro H locs ls h1 h2 h3 T9 hT9 X9
  obtain ⟨g1, g2, -⟩ := st_grown hR0 (by rw [hT9]; exact h1) X9
  have hmax := h1.2.2.2.2.2.2.2.2.1
  have hmax2 := h1.2.2.2.2.2.2.2.2.2.1
  have e0 : lS g (As.reverse ++ rest) = (lS g As).reverse ++ lS g rest := by
    rw [lS_app, lS_rev]
  rw [e0]
  refine r_run (free := fun q => (xH g).size ≤ q) hR0 hn0 hs0 (vy_runSW (hh := hh) (As := lS g As) (rest := lS g rest) ⟨hx, hb, hml, hown, hts⟩ hC (vy_cwSW n hts hw rfl rfl rfl hds ⟨by rw [hf1]; exact hrm.1, by rw [hf2]; exact hrm.2⟩) ⟨ct_blind, fun U hU hW => ⟨rfl, by rw [hU]; exact h1, hCx.warm hW⟩⟩ rfl (by unfold lS; rw [List.length_map]; exact hn) h3.1 rfl ?_ hd ⟨?_, ?_⟩) (fun _ _ _ h => h) (fun q h => h) h2 h3 hq kk T9 hT9 X9
  · exact lv_room (by rw [lS_sum]; exact h8)
  · rw [hRc, ← hn0]; omega
  · rw [hRs, ← hs0]; omega
end RW
