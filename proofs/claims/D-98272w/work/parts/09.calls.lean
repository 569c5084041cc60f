/-! ===== contracts, calls, returns ===== -/
set_option maxRecDepth 100000
def lcat (e : lE) : Nat := match e with
  | .inr (.inl _) => 2
  | _ => 1
theorem lcat_eq {g : gX} {e : lE} : (lV g e).category = lcat e := by
  obtain x | x | x := e
  · rfl
  · rfl
  · exact grf_cat
theorem lS_sum {g : gX} {st : List lE} : ((lS g st).map fun v => v.category).sum = (st.map lcat).sum := by
  unfold lS
  rw [List.map_map]
  congr 2
  funext e
  exact lcat_eq
/-- the arguments as locals -/
def la : Nat → List lE → List (Nat × lE)
  | _, [] => []
  | i, v :: vs => (i, v) :: la (i + lcat v) vs
theorem la_eq {g : gX} : ∀ (vs : List lE) (i : Nat), lv_args i (vs.map (lV g)) = lL g (la i vs) := by
  intro vs
  induction vs with
  | nil => intro i; rfl
  | cons v vs ih =>
    intro i
    show (i, lV g v) :: lv_args (if (lV g v).category = 2 then i + 2 else i + 1) (vs.map (lV g)) = (i, lV g v) :: lL g (la (i + lcat v) vs)
    rw [← ih, lcat_eq]
    congr 2
    obtain x | x | x := v <;> rfl
theorem lsl_len {g : gX} (vs : List lE) : (lg_sl (vs.map (lV g))).length = (vs.map lcat).sum := by
  induction vs with
  | nil => rfl
  | cons v vs ih =>
    have e1 : lg_sl ((v :: vs).map (lV g)) = (if (lV g v).category = 2 then [Slot.val (lV g v), Slot.second] else [Slot.val (lV g v)]) ++ lg_sl (vs.map (lV g)) := rfl
    rw [e1, List.length_append, ih, lcat_eq]
    have e2 : ((v :: vs).map lcat).sum = lcat v + (vs.map lcat).sum := by simp
    rw [e2]
    congr 1
    obtain x | x | x := v <;> rfl
/-- method y, called with av over the heap G, returns r and leaves the heap G1 -/
def Ct (g : gX) (l : Launch) (y : MethodName) (code : ByteArray) (mL : Nat) (ret : Option FieldType) (fr lo : Nat) (av : List lE) (G : gH) (r : Option lE) (G1 : gH) : Prop :=
  Met l y (ws_ y code mL ret) { frames := fr, cells := LIMC - gN G, slots := LIMS - gS G, locals := lo } (fun v U => v = (av.map (lV g)).toArray ∧ Rep g G U.heap ∧ Cx g U) (fun _ _ oc t => oc = .returned (r.map (lV g)) ∧ Rep g G1 t.heap) (LIMC - gN G) (LIMS - gS G) (fun q => (xH g).size ≤ q)
def kg (K : kX) : gX := K.1
def kl (K : kX) : Launch := K.2.2.2.2.2.1
/-- the method's ends -/
def kEnd (K : kX) (cc : ByteArray) (ret : Option FieldType) (r : Option lE) (G1 : gH) : Prop := ∀ (pc : Nat) (L : List (Nat × lE)),
  (∀ (x x' : Int32) (rt : FieldType), ret = some rt → r = some (vi x') → narrow rt (.int x) = .int x' → decode cc pc = .ok (.ireturn, 1) → V K G1 pc L [vi x]) ∧
  (∀ (x : Int64), ret = some .long → r = some (vj x) → decode cc pc = .ok (.lreturn, 1) → V K G1 pc L [vj x]) ∧
  (∀ (a : Nat) (rt : FieldType), ret = some rt → rt.isReference = true → r = some (vr a) → decode cc pc = .ok (.areturn, 1) → V K G1 pc L [vr a]) ∧
  (ret = none → r = none → decode cc pc = .ok (.return_, 1) → V K G1 pc L [])
section ZR
variable {p : Program} {l : Launch} {e : Env} {R : Room} {s : State} {m : MethodId} {args : Array Value} {below : List Frame} {meth : Method} {c : Code} {H : Heap} {locs : List Loc} {cells slots : Nat}
/-- an int answer, narrowed to the method's own type -/
theorem w_zret {cc : ByteArray} {Qc : Array Value → State → Outcome → State → Prop} {free : Addr → Prop} {v v' : Int32} {ty : FieldType} (hexec : p.tables.exec = Jvm.exec) (hb : c.code = cc) (hr : meth.sig.returnType = some ty) (hn : narrow ty (.int v) = .int v')
    (hq : ∀ t : State, t.heap = H → s.WarmedH t.vm → Qc args s (.returned (some (.int v'))) t) (hf : ∀ q ∈ locs, free q.base)
    {pc : Nat} {ls : Array Slot} (hdg : decode cc pc = .ok (.ireturn, 1)) (hlocks : meth.locks = false) : W p l e R s m args below meth c H locs cells slots (MQ below Qc args s cells slots free) (F0 m pc ls [.int v]) := by
  intro T hT X
  obtain ⟨fs, hret, hrun, hended, hW, hframe⟩ := X.leave (v := some (.int v')) (hlocks := hlocks) (fun h => by rw [hr] at h; cases h)
  have hmeth' : T.vm.method? m = some meth := X.method'
  refine ⟨T.setFrames fs, ?_, .returned (some (.int v')), hrun, hended, hq _ hT hW, locs, ⟨⟨_, rfl⟩, hW, hframe⟩, hf⟩
  jvm_step X.here [X.here.top, hexec, hb, hdg, hmeth', hr, hn]
  (try refine ⟨rfl, ?_⟩); (try refine ⟨rfl, ?_⟩)
  first | (intro acts; rw [hret _ acts rfl rfl rfl]) | rw [hret _ _ rfl rfl rfl]
  exact Steps.refl _
end ZR
set_option maxHeartbeats 4000000 in
theorem Ct.of {g : gX} {l : Launch} {y : MethodName} {code : ByteArray} {mL fr lo : Nat} {ret : Option FieldType} {av : List lE} {G : gH} {r : Option lE} {G1 : gH} (hy : plainName y.cls = true) (hav : (av.map lcat).sum ≤ mL)
    (body : ∀ K : kX, kg K = g → kl K = l → K.2.2.2.2.2.2.2.2.2.2.2.2.1.name = y.name → kOk K y.cls code mL fr lo → kEnd K code ret r G1 → V K G 0 (la 0 av) []) : Ct g l y code mL ret fr lo av G r G1 := by
  refine Met.ofW (cc := code) (maxL := mL) (ret := ret) hy rfl ?_
  intro p e s m args below meth c s₁ B hml hv
  obtain ⟨rfl, hR, hC⟩ := hv
  have hx := B.exec
  have hb := B.bytes
  have hr := B.returns
  have hts := atoms_spec (ws := ws_ y code mL ret) B.pre
  have hts : ∀ w ∈ lw_all, w.before _ s = true := fun w h => hts w (List.mem_cons_of_mem _ h)
  have hown : s.vm.findClass y.cls = some m.cls := findClass_of_methodNamed B.named
  have hlocks := B.notSynchronized
  have hnm : meth.name = y.name := (name_of_methodNamed B.named B.method).1
  have hl := lv_entry (av.map (lV g)) (n := mL) (by rw [lsl_len]; exact hav)
  rw [lg_entry_eq]
  rw [la_eq] at hl
  have hroom : (headSpec (ws_ y code mL ret) { frames := fr, cells := LIMC - gN G, slots := LIMS - gS G, locals := lo }).room = { frames := fr, cells := LIMC - gN G, slots := LIMS - gS G, locals := lo } := rfl
  have hR9 : 64 ≤ gN G := hR.1
  have key := body (g, mL, gN G, gS G, p, l, e, (headSpec (ws_ y code mL ret) { frames := fr, cells := LIMC - gN G, slots := LIMS - gS G, locals := lo }).room, s, m, (av.map (lV g)).toArray, below, meth, c, MQ below (fun _ _ oc t => oc = .returned (r.map (lV g)) ∧ Rep g G1 t.heap) (av.map (lV g)).toArray s (LIMC - gN G) (LIMS - gS G) (fun q => (xH g).size ≤ q)) rfl rfl hnm
    ⟨rfl, hx, hb, hml, hown, hts, hC, hlocks, rfl, rfl, rfl, rfl, G, rfl, rfl, hR⟩ (fun pc L => ⟨fun x x' rt e1 e2 e3 hd => ?_, fun x e1 e2 hd => ?_, fun a rt e1 e2 e3 hd => ?_, fun e1 e2 hd => ?_⟩)
  · have k9 := key s.heap [] _ hR (fun q h => by cases h) hl
    have z1 : gN G - gN G = 0 := Nat.sub_self _
    have z2 : gS G - gS G = 0 := Nat.sub_self _
    rw [z1, z2] at k9
    exact k9
  · intro H locs ls h1 h2 h3
    subst e1
    subst e2
    refine W.widen (k := LIMC - gN G) (n := LIMS - gS G) (by have := h1.2.2.2.2.2.2.2.2.1; omega) (by have := h1.2.2.2.2.2.2.2.2.2.1; omega) ?_
    exact w_zret hx hb hr e3 (fun t ht hW => ⟨rfl, by rw [ht]; exact h1⟩) h2 hd hlocks
  · intro H locs ls h1 h2 h3
    subst e1
    subst e2
    refine W.widen (k := LIMC - gN G) (n := LIMS - gS G) (by have := h1.2.2.2.2.2.2.2.2.1; omega) (by have := h1.2.2.2.2.2.2.2.2.2.1; omega) ?_
    exact W.lret hx hb hr (fun t ht hW => ⟨rfl, by rw [ht]; exact h1⟩) h2 hd
  · intro H locs ls h1 h2 h3
    subst e1
    subst e3
    refine W.widen (k := LIMC - gN G) (n := LIMS - gS G) (by have := h1.2.2.2.2.2.2.2.2.1; omega) (by have := h1.2.2.2.2.2.2.2.2.2.1; omega) ?_
    refine W.aret (v := grf g a) (rt := rt) hx hb hr ?_ ?_ (fun t ht hW => ⟨rfl, by rw [ht]; exact h1⟩) h2 hd
    · cases rt <;> first | exact absurd e2 (by decide) | exact Or.inl ⟨_, rfl⟩ | exact Or.inr ⟨_, rfl⟩
    · unfold grf
      split
      · exact Or.inl rfl
      · exact Or.inr ⟨_, rfl⟩
  · intro H locs ls h1 h2 h3
    subst e1
    subst e2
    refine W.widen (k := LIMC - gN G) (n := LIMS - gS G) (by have := h1.2.2.2.2.2.2.2.2.1; omega) (by have := h1.2.2.2.2.2.2.2.2.2.1; omega) ?_
    exact W.vret hx hb hr (fun t ht hW => ⟨rfl, by rw [ht]; exact h1⟩) h2 hd
theorem ct_blind {g : gX} {G : gH} {av : List Value} : FrameBlind (fun v U => v = av.toArray ∧ Rep g G U.heap ∧ Cx g U) := by
  intro a U f mk h
  obtain ⟨h1, h2, h3⟩ := h
  exact ⟨h1, h2, Cx.same (s := U) (U := U.calling f mk a) (show U.vm = (U.calling f mk a).vm from rfl) h3⟩
section RC
variable {K : kX} {own : String} {cc : ByteArray} {nL fr lo pc q : Nat} {G : gH} {L : List (Nat × lE)} {st : List lE}
/-- behind a call -/
theorem r_run {G1 : gH} {r : Option lE} {rest : List lE} {Qa : State → Outcome → State → Prop} {g : gX} {n0 s0 : Nat} {p : Program} {l : Launch} {e : Env} {R : Room} {s : State} {m : MethodId} {args : Array Value} {below : List Frame} {meth : Method} {c : Code} {Q : State → Prop} {H : Heap} {locs : List Loc} {ls : Array Slot} {cells slots mc ms : Nat} {st0 : List Value} {free : Addr → Prop} {G0 : gH} (hR0 : Rep g G0 s.heap) (hn0 : gN G0 = n0) (hs0 : gS G0 = s0)
    (hr : va_Run p l e R s m args below meth c H locs cells slots mc ms (F0 m pc ls st0) (lS g rest) Qa free) (hQ : ∀ st oc t, Qa st oc t → oc = .returned (r.map (lV g)) ∧ Rep g G1 t.heap) (hfree : ∀ q, free q → (xH g).size ≤ q) (h2 : ∀ q ∈ locs, (xH g).size ≤ q.base) (h3 : lv_has ls nL (lL g L)) (hq : pc + 3 = q)
    (kk : V (g, nL, n0, s0, p, l, e, R, s, m, args, below, meth, c, Q) G1 q L (r.toList ++ rest)) : W p l e R s m args below meth c H locs cells slots Q (F0 m pc ls st0) := by
  subst hq
  subst hn0
  subst hs0
  intro T hT X
  obtain ⟨v, st₀, t, T', Lc, e0, X', hL, e1, e2, hQa, hgo⟩ := hr T hT X
  obtain ⟨hv, hR1⟩ := hQ _ _ _ hQa
  have hv' : v = r.map (lV g) := Outcome.returned.inj hv
  subst hv'
  have hRT : Rep g G1 T'.heap := by rw [e1]; exact hR1
  have X2 := (st_grown hR0 hRT X').2.2
  obtain ⟨t2, a1, b1⟩ := kk T'.heap (locs ++ Lc) ls hRT (fun q hq => by
    rcases List.mem_append.mp hq with h | h
    · exact h2 q h
    · exact hfree _ (hL q h)) h3 T' rfl X2
  refine ⟨t2, hgo t2 ?_, b1⟩
  have e9 : lS g (r.toList ++ rest) = (r.map (lV g)).toList ++ lS g rest := by
    cases r <;> rfl
  rw [e9] at a1
  exact a1
theorem lS_app {g : gX} {a b : List lE} : lS g (a ++ b) = lS g a ++ lS g b := List.map_append
theorem lS_rev {g : gX} {a : List lE} : lS g a.reverse = (lS g a).reverse := List.map_reverse
set_option maxHeartbeats 4000000 in
theorem r_callV {y : MethodName} {code : ByteArray} {mL fr' lo' idx t a N n : Nat} {ret : Option FieldType} {C : String} {T : u_T} {As rest : List lE} {r : Option lE} {G1 : gH} (hK : kOk K own cc nL fr lo) (hd : decode cc pc = .ok (.invokevirtual idx, 3)) (hC : Ct (kg K) (kl K) y code mL ret fr' lo' (vr a :: As) G r G1)
    (hw : GoodIn lw_all (wsV own idx C y (ws_ y code mL ret))) (hds : y.cls = C ∧ y.cls ≠ "java/lang/invoke/MethodHandle" ∧ y.cls ≠ "java/lang/invoke/VarHandle" ∧ (parseMethodDescriptor y.desc).map (fun d => d.parameters.length) = some n) (hn : As.length = n) (hc : gcl[t]? = some (C, T, N)) (h0 : 0 < t) (h64 : t < 64) (ht : gT G a = t)
    (hrm : fr' + 1 ≤ fr ∧ 8 + (mL + 11) + lo' ≤ lo) (hst : st = As.reverse ++ vr a :: rest) (h8 : (rest.map lcat).sum ≤ 8) (hq : pc + 3 = q) (kk : V K G1 q L (r.toList ++ rest)) : V K G pc L st := by
  obtain ⟨g, nL', n0, s0, p, l, e, R, s, m, args, below, meth, c, Q⟩ := K
  obtain ⟨rfl, hx, hb, hml, hown, hts, hCx, hlk, hf1, hf2, hRc, hRs, G0, hn0, hs0, hR0⟩ := hK
  subst hst
  intro H locs ls h1 h2 h3 T9 hT9 X9
  obtain ⟨g1, g2, -⟩ := st_grown hR0 (by rw [hT9]; exact h1) X9
  obtain ⟨cell, q1, q2, q3, q4⟩ := h1.obj ht h0 h64
  have hKn := hCx.1.1 t _ hc
  have hmax := h1.2.2.2.2.2.2.2.2.1
  have hmax2 := h1.2.2.2.2.2.2.2.2.2.1
  have e0 : lS g (As.reverse ++ vr a :: rest) = (lS g As).reverse ++ .ref (gad g a) :: lS g rest := by
    rw [lS_app, lS_rev, lS_cons]
    show _ ++ grf g a :: _ = _
    rw [grf_ne (h1.pos ht h0)]
  rw [e0]
  refine r_run (free := fun q => (xH g).size ≤ q) hR0 hn0 hs0 (va_runV (As := lS g As) (rest := lS g rest) ⟨hx, hb, hml, hown, hts⟩ hC (cwV n hts hw rfl rfl rfl hds ⟨by rw [hf1]; exact hrm.1, by rw [hf2]; exact hrm.2⟩) ⟨ct_blind, ⟨cell, q1, by rw [q3]; rfl, by rw [q2]; exact hKn.2.1⟩, fun U hU hW => ⟨?_, by rw [hU]; exact h1, hCx.warm hW⟩⟩ rfl (by unfold lS; rw [List.length_map]; exact hn) h3.1 rfl ?_ hd ⟨?_, ?_⟩) (fun _ _ _ h => h) (fun q h => h) h2 h3 hq kk T9 hT9 X9
  · show (Value.ref (gad g a) :: lS g As).toArray = (grf g a :: As.map (lV g)).toArray
    rw [grf_ne (h1.pos ht h0)]
    rfl
  · exact lv_room (by rw [lS_sum]; exact h8)
  · rw [hRc, ← hn0]; omega
  · rw [hRs, ← hs0]; omega
set_option maxHeartbeats 4000000 in
theorem r_callS {y : MethodName} {code : ByteArray} {mL fr' lo' idx n : Nat} {ret : Option FieldType} {As rest : List lE} {r : Option lE} {G1 : gH} (hK : kOk K own cc nL fr lo) (hd : decode cc pc = .ok (.invokestatic idx, 3)) (hC : Ct (kg K) (kl K) y code mL ret fr' lo' As G r G1)
    (hw : GoodIn lw_all (va_wsS own idx y (ws_ y code mL ret))) (hds : y.cls ≠ "java/lang/invoke/MethodHandle" ∧ y.cls ≠ "java/lang/invoke/VarHandle" ∧ (parseMethodDescriptor y.desc).map (fun d => d.parameters.length) = some n) (hn : As.length = n)
    (hrm : fr' + 1 ≤ fr ∧ 8 + (mL + 11) + lo' ≤ lo) (hst : st = As.reverse ++ rest) (h8 : (rest.map lcat).sum ≤ 8) (hq : pc + 3 = q) (kk : V K G1 q L (r.toList ++ rest)) : V K G pc L st := by
  obtain ⟨g, nL', n0, s0, p, l, e, R, s, m, args, below, meth, c, Q⟩ := K
  obtain ⟨rfl, hx, hb, hml, hown, hts, hCx, hlk, hf1, hf2, hRc, hRs, G0, hn0, hs0, hR0⟩ := hK
  subst hst
  intro H locs ls h1 h2 h3 T9 hT9 X9
  obtain ⟨g1, g2, -⟩ := st_grown hR0 (by rw [hT9]; exact h1) X9
  have hmax := h1.2.2.2.2.2.2.2.2.1
  have hmax2 := h1.2.2.2.2.2.2.2.2.2.1
  have e0 : lS g (As.reverse ++ rest) = (lS g As).reverse ++ lS g rest := by
    rw [lS_app, lS_rev]
  rw [e0]
  refine r_run (free := fun q => (xH g).size ≤ q) hR0 hn0 hs0 (va_runS (As := lS g As) (rest := lS g rest) ⟨hx, hb, hml, hown, hts⟩ hC (va_cwS n hts hw rfl rfl rfl hds ⟨by rw [hf1]; exact hrm.1, by rw [hf2]; exact hrm.2⟩) ⟨ct_blind, fun U hU hW => ⟨rfl, by rw [hU]; exact h1, hCx.warm hW⟩⟩ rfl (by unfold lS; rw [List.length_map]; exact hn) h3.1 rfl ?_ hd ⟨?_, ?_⟩) (fun _ _ _ h => h) (fun q h => h) h2 h3 hq kk T9 hT9 X9
  · exact lv_room (by rw [lS_sum]; exact h8)
  · rw [hRc, ← hn0]; omega
  · rw [hRs, ← hs0]; omega
set_option maxHeartbeats 4000000 in
theorem r_callI {y : MethodName} {code : ByteArray} {mL fr' lo' idx a n : Nat} {As rest : List lE} {r : Option lE} {G1 : gH} (hK : kOk K own cc nL fr lo) (hd : decode cc pc = .ok (.invokespecial idx, 3)) (hC : Ct (kg K) (kl K) y code mL none fr' lo' (vr a :: As) G r G1)
    (hw : Cond.code y code mL none ∈ lw_all) (hini : Cond.initialized y.cls ∈ lw_all) (hlk0 : Cond.methodLink own idx y ∈ lw_all) (him : Cond.instanceMethod y ∈ lw_all) (hnm : y.name = "<init>") (hds : y.cls ≠ "java/lang/invoke/MethodHandle" ∧ y.cls ≠ "java/lang/invoke/VarHandle" ∧ (parseMethodDescriptor y.desc).map (fun d => d.parameters.length) = some n) (hn : As.length = n) (ha : gT G a ≠ 0)
    (hrm : fr' + 1 ≤ fr ∧ 8 + (mL + 11) + lo' ≤ lo) (hst : st = As.reverse ++ vr a :: rest) (h8 : (rest.map lcat).sum ≤ 8) (hq : pc + 3 = q) (kk : V K G1 q L (r.toList ++ rest)) : V K G pc L st := by
  obtain ⟨g, nL', n0, s0, p, l, e, R, s, m, args, below, meth, c, Q⟩ := K
  obtain ⟨rfl, hx, hb, hml, hown, hts, hCx, hlk, hf1, hf2, hRc, hRs, G0, hn0, hs0, hR0⟩ := hK
  subst hst
  intro H locs ls h1 h2 h3 T9 hT9 X9
  obtain ⟨g1, g2, -⟩ := st_grown hR0 (by rw [hT9]; exact h1) X9
  have hmax := h1.2.2.2.2.2.2.2.2.1
  have hmax2 := h1.2.2.2.2.2.2.2.2.2.1
  have e0 : lS g (As.reverse ++ vr a :: rest) = (lS g As).reverse ++ .ref (gad g a) :: lS g rest := by
    rw [lS_app, lS_rev, lS_cons]
    show _ ++ grf g a :: _ = _
    rw [grf_ne (h1.pos rfl (Nat.pos_of_ne_zero ha))]
  rw [e0]
  refine r_run (free := fun q => (xH g).size ≤ q) hR0 hn0 hs0 (va_runI (b := gad g a) (As := lS g As) (rest := lS g rest) ⟨hx, hb, hml, hown, hts⟩ hC (cwI n hts (lw_meth hw) rfl rfl rfl (hts _ hini) (hts _ hlk0) (hts _ him) hnm hds ⟨by rw [hf1]; exact hrm.1, by rw [hf2]; exact hrm.2⟩) ⟨ct_blind, fun U hU hW => ⟨?_, by rw [hU]; exact h1, hCx.warm hW⟩⟩ rfl (by unfold lS; rw [List.length_map]; exact hn) h3.1 rfl ?_ hd ⟨?_, ?_⟩) (fun _ _ _ h => h) (fun q h => h) h2 h3 hq kk T9 hT9 X9
  · show (Value.ref (gad g a) :: lS g As).toArray = (grf g a :: As.map (lV g)).toArray
    rw [grf_ne (h1.pos rfl (Nat.pos_of_ne_zero ha))]
    rfl
  · exact lv_room (by rw [lS_sum]; exact h8)
  · rw [hRc, ← hn0]; omega
  · rw [hRs, ← hs0]; omega
theorem r_objInit {idx a : Nat} (hK : kOk K own cc nL fr lo) (hd : decode cc pc = .ok (.invokespecial idx, 3)) (hl : Cond.methodLink own idx Lib.objectInit ∈ lw_all) (hi : Cond.instanceMethod Lib.objectInit ∈ lw_all) (hcd : Cond.code Lib.objectInit ⟨#[0xb1]⟩ 1 none ∈ lw_all) (ha : gT G a ≠ 0) (h1f : 1 ≤ fr) (hll : (st.map lcat).sum + 12 ≤ lo) (hq : pc + 3 = q) (kk : V K G q L st) : V K G pc L (vr a :: st) := by
  obtain ⟨g, nL', n0, s0, p, l, e, R, s, m, args, below, meth, c, Q⟩ := K
  obtain ⟨rfl, hx, hb, hml, hown, hts, hCx, hlk, hf1, hf2, -⟩ := hK
  subst hq
  intro H locs ls h1 h2 h3
  have e0 : lS g (vr a :: st) = .ref (gad g a) :: lS g st := by
    rw [lS_cons]
    show grf g a :: _ = _
    rw [grf_ne (h1.pos rfl (Nat.pos_of_ne_zero ha))]
  rw [e0]
  refine W.objInit hx hb hown (hts _ hl) (hts _ hi) (hts _ hcd) rfl (by rw [hml]; exact h3.1) rfl hd (by rw [hf1]; exact h1f) ?_ (kk H locs ls h1 h2 h3)
  rw [hf2, lS_sum]
  have hm0 : (F0 m pc ls (.ref (gad g a) :: lS g st)).monitorRoom = 0 := rfl
  rw [hm0]
  omega
end RC
