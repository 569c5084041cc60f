/-! ===== more calls: nest mates, methods of a class above, abstract methods ===== -/
set_option maxRecDepth 100000
section RC2
variable {K : kX} {own : String} {cc : ByteArray} {nL fr lo pc q : Nat} {G : gH} {L : List (Nat × lE)} {st : List lE}
set_option maxHeartbeats 4000000 in
theorem r_callVN {y : MethodName} {code : ByteArray} {mL fr' lo' idx t a N n : Nat} {ret : Option FieldType} {C host : String} {T : u_T} {As rest : List lE} {r : Option lE} {G1 : gH} (hK : kOk K own cc nL fr lo) (hd : decode cc pc = .ok (.invokevirtual idx, 3)) (hC : Ct (kg K) (kl K) y code mL ret fr' lo' (vr a :: As) G r G1)
    (hlkn : Cond.methodLinkNest own idx y host ∈ lw_tbl) (him : Cond.instanceMethod y ∈ lw_all) (hsl : Cond.selects C y y ∈ lw_all) (hini : Cond.initialized y.cls ∈ lw_all) (hcd : Cond.code y code mL ret ∈ lw_all) (hds : y.cls ≠ "java/lang/invoke/MethodHandle" ∧ y.cls ≠ "java/lang/invoke/VarHandle" ∧ (parseMethodDescriptor y.desc).map (fun d => d.parameters.length) = some n) (hn : As.length = n) (hc : gcl[t]? = some (C, T, N)) (h0 : 0 < t) (h64 : t < 64) (ht : gT G a = t)
    (hrm : fr' + 1 ≤ fr ∧ 8 + (mL + 11) + lo' ≤ lo) (hst : st = As.reverse ++ vr a :: rest) (h8 : (rest.map lcat).sum ≤ 8) (hq : pc + 3 = q) (kk : V K G1 q L (r.toList ++ rest)) : V K G pc L st := by
  obtain ⟨g, nL', n0, s0, p, l, e, R, s, m, args, below, meth, c, Q⟩ := K
  obtain ⟨rfl, hx, hb, hml, hown, hts, hCx, hlk, hf1, hf2, hRc, hRs, G0, hn0, hs0, hR0⟩ := hK
  subst hst
  intro H locs ls h1 h2 h3 T9 hT9 X9
  obtain ⟨g1, g2, -⟩ := st_grown hR0 (by rw [hT9]; exact h1) X9
  obtain ⟨cell, q1, q2, q3, q4⟩ := h1.obj ht h0 h64
  have hKn := hCx.1.1 t _ hc
  have hmax := h1.2.2.2.2.2.2.2.2.1
  have hmax2 := h1.2.2.2.2.2.2.2.2.2.1
  have e0 : lS g (As.reverse ++ vr a :: rest) = (lS g As).reverse ++ .ref (gad g a) :: lS g rest := by
    rw [lS_app, lS_rev, lS_cons]
    show _ ++ grf g a :: _ = _
    rw [grf_ne (h1.pos ht h0)]
  rw [e0]
  refine r_run (free := fun q => (xH g).size ≤ q) hR0 hn0 hs0 (va_runVN (As := lS g As) (rest := lS g rest) ⟨hx, hb, hml, hown, hts⟩ hC ⟨va_cnB n hts (lw_meth hcd) rfl rfl rfl (hCx.2.1 _ hlkn rfl) (hts _ hini) hds ⟨by rw [hf1]; exact hrm.1, by rw [hf2]; exact hrm.2⟩, hts _ him, hts _ hsl⟩ ⟨ct_blind, ⟨cell, q1, by rw [q3]; rfl, by rw [q2]; exact hKn.2.1⟩, fun U hU hW => ⟨?_, by rw [hU]; exact h1, hCx.warm hW⟩⟩ rfl (by unfold lS; rw [List.length_map]; exact hn) h3.1 rfl ?_ hd ⟨?_, ?_⟩) (fun _ _ _ h => h) (fun q h => h) h2 h3 hq kk T9 hT9 X9
  · show (Value.ref (gad g a) :: lS g As).toArray = (grf g a :: As.map (lV g)).toArray
    rw [grf_ne (h1.pos ht h0)]
    rfl
  · exact lv_room (by rw [lS_sum]; exact h8)
  · rw [hRc, ← hn0]; omega
  · rw [hRs, ← hs0]; omega
set_option maxHeartbeats 4000000 in
theorem r_callSN {y : MethodName} {code : ByteArray} {mL fr' lo' idx n : Nat} {ret : Option FieldType} {host : String} {As rest : List lE} {r : Option lE} {G1 : gH} (hK : kOk K own cc nL fr lo) (hd : decode cc pc = .ok (.invokestatic idx, 3)) (hC : Ct (kg K) (kl K) y code mL ret fr' lo' As G r G1)
    (hlkn : Cond.methodLinkNest own idx y host ∈ lw_tbl) (hsc : Cond.static y ∈ lw_all) (hini : Cond.initialized y.cls ∈ lw_all) (hcd : Cond.code y code mL ret ∈ lw_all) (hds : y.cls ≠ "java/lang/invoke/MethodHandle" ∧ y.cls ≠ "java/lang/invoke/VarHandle" ∧ (parseMethodDescriptor y.desc).map (fun d => d.parameters.length) = some n) (hn : As.length = n)
    (hrm : fr' + 1 ≤ fr ∧ 8 + (mL + 11) + lo' ≤ lo) (hst : st = As.reverse ++ rest) (h8 : (rest.map lcat).sum ≤ 8) (hq : pc + 3 = q) (kk : V K G1 q L (r.toList ++ rest)) : V K G pc L st := by
  obtain ⟨g, nL', n0, s0, p, l, e, R, s, m, args, below, meth, c, Q⟩ := K
  obtain ⟨rfl, hx, hb, hml, hown, hts, hCx, hlk, hf1, hf2, hRc, hRs, G0, hn0, hs0, hR0⟩ := hK
  subst hst
  intro H locs ls h1 h2 h3 T9 hT9 X9
  obtain ⟨g1, g2, -⟩ := st_grown hR0 (by rw [hT9]; exact h1) X9
  have hmax := h1.2.2.2.2.2.2.2.2.1
  have hmax2 := h1.2.2.2.2.2.2.2.2.2.1
  have e0 : lS g (As.reverse ++ rest) = (lS g As).reverse ++ lS g rest := by
    rw [lS_app, lS_rev]
  rw [e0]
  refine r_run (free := fun q => (xH g).size ≤ q) hR0 hn0 hs0 (va_runSN (As := lS g As) (rest := lS g rest) ⟨hx, hb, hml, hown, hts⟩ hC ⟨va_cnB n hts (lw_meth hcd) rfl rfl rfl (hCx.2.1 _ hlkn rfl) (hts _ hini) hds ⟨by rw [hf1]; exact hrm.1, by rw [hf2]; exact hrm.2⟩, hts _ hsc, trivial⟩ ⟨ct_blind, fun U hU hW => ⟨rfl, by rw [hU]; exact h1, hCx.warm hW⟩⟩ rfl (by unfold lS; rw [List.length_map]; exact hn) h3.1 rfl ?_ hd ⟨?_, ?_⟩) (fun _ _ _ h => h) (fun q h => h) h2 h3 hq kk T9 hT9 X9
  · exact lv_room (by rw [lS_sum]; exact h8)
  · rw [hRc, ← hn0]; omega
  · rw [hRs, ← hs0]; omega
set_option maxHeartbeats 4000000 in
theorem r_callIN {y : MethodName} {code : ByteArray} {mL fr' lo' idx a n : Nat} {host : String} {As rest : List lE} {r : Option lE} {G1 : gH} (hK : kOk K own cc nL fr lo) (hd : decode cc pc = .ok (.invokespecial idx, 3)) (hC : Ct (kg K) (kl K) y code mL none fr' lo' (vr a :: As) G r G1)
    (hw : Cond.code y code mL none ∈ lw_all) (hini : Cond.initialized y.cls ∈ lw_all) (hlkn : Cond.methodLinkNest own idx y host ∈ lw_tbl) (him : Cond.instanceMethod y ∈ lw_all) (hnm : y.name = "<init>") (hds : y.cls ≠ "java/lang/invoke/MethodHandle" ∧ y.cls ≠ "java/lang/invoke/VarHandle" ∧ (parseMethodDescriptor y.desc).map (fun d => d.parameters.length) = some n) (hn : As.length = n) (ha : gT G a ≠ 0)
    (hrm : fr' + 1 ≤ fr ∧ 8 + (mL + 11) + lo' ≤ lo) (hst : st = As.reverse ++ vr a :: rest) (h8 : (rest.map lcat).sum ≤ 8) (hq : pc + 3 = q) (kk : V K G1 q L (r.toList ++ rest)) : V K G pc L st := by
  obtain ⟨g, nL', n0, s0, p, l, e, R, s, m, args, below, meth, c, Q⟩ := K
  obtain ⟨rfl, hx, hb, hml, hown, hts, hCx, hlk, hf1, hf2, hRc, hRs, G0, hn0, hs0, hR0⟩ := hK
  subst hst
  intro H locs ls h1 h2 h3 T9 hT9 X9
  obtain ⟨g1, g2, -⟩ := st_grown hR0 (by rw [hT9]; exact h1) X9
  have hmax := h1.2.2.2.2.2.2.2.2.1
  have hmax2 := h1.2.2.2.2.2.2.2.2.2.1
  have e0 : lS g (As.reverse ++ vr a :: rest) = (lS g As).reverse ++ .ref (gad g a) :: lS g rest := by
    rw [lS_app, lS_rev, lS_cons]
    show _ ++ grf g a :: _ = _
    rw [grf_ne (h1.pos rfl (Nat.pos_of_ne_zero ha))]
  rw [e0]
  refine r_run (free := fun q => (xH g).size ≤ q) hR0 hn0 hs0 (va_runIN (b := gad g a) (As := lS g As) (rest := lS g rest) ⟨hx, hb, hml, hown, hts⟩ hC ⟨va_cnB n hts (lw_meth hw) rfl rfl rfl (hCx.2.1 _ hlkn rfl) (hts _ hini) hds ⟨by rw [hf1]; exact hrm.1, by rw [hf2]; exact hrm.2⟩, hnm, hts _ him⟩ ⟨ct_blind, fun U hU hW => ⟨?_, by rw [hU]; exact h1, hCx.warm hW⟩⟩ rfl (by unfold lS; rw [List.length_map]; exact hn) h3.1 rfl ?_ hd ⟨?_, ?_⟩) (fun _ _ _ h => h) (fun q h => h) h2 h3 hq kk T9 hT9 X9
  · show (Value.ref (gad g a) :: lS g As).toArray = (grf g a :: As.map (lV g)).toArray
    rw [grf_ne (h1.pos rfl (Nat.pos_of_ne_zero ha))]
    rfl
  · exact lv_room (by rw [lS_sum]; exact h8)
  · rw [hRc, ← hn0]; omega
  · rw [hRs, ← hs0]; omega
set_option maxHeartbeats 4000000 in
theorem r_callU {x y : MethodName} {code : ByteArray} {mL fr' lo' idx t a N n : Nat} {ret : Option FieldType} {C owner : String} {T : u_T} {As rest : List lE} {r : Option lE} {G1 : gH} (hK : kOk K own cc nL fr lo) (hd : decode cc pc = .ok (.invokevirtual idx, 3)) (hC : Ct (kg K) (kl K) y code mL ret fr' lo' (vr a :: As) G r G1)
    (hw : GoodIn lw_all (va_wsU own idx C owner x y (ws_ y code mL ret))) (hyx : y = ⟨owner, x.name, x.desc⟩) (hds : owner ≠ "java/lang/invoke/MethodHandle" ∧ owner ≠ "java/lang/invoke/VarHandle" ∧ (parseMethodDescriptor x.desc).map (fun d => d.parameters.length) = some n) (hn : As.length = n) (hc : gcl[t]? = some (C, T, N)) (h0 : 0 < t) (h64 : t < 64) (ht : gT G a = t)
    (hrm : fr' + 1 ≤ fr ∧ 8 + (mL + 11) + lo' ≤ lo) (hst : st = As.reverse ++ vr a :: rest) (h8 : (rest.map lcat).sum ≤ 8) (hq : pc + 3 = q) (kk : V K G1 q L (r.toList ++ rest)) : V K G pc L st := by
  obtain ⟨g, nL', n0, s0, p, l, e, R, s, m, args, below, meth, c, Q⟩ := K
  obtain ⟨rfl, hx, hb, hml, hown, hts, hCx, hlk, hf1, hf2, hRc, hRs, G0, hn0, hs0, hR0⟩ := hK
  subst hst
  intro H locs ls h1 h2 h3 T9 hT9 X9
  obtain ⟨g1, g2, -⟩ := st_grown hR0 (by rw [hT9]; exact h1) X9
  obtain ⟨cell, q1, q2, q3, q4⟩ := h1.obj ht h0 h64
  have hKn := hCx.1.1 t _ hc
  have hmax := h1.2.2.2.2.2.2.2.2.1
  have hmax2 := h1.2.2.2.2.2.2.2.2.2.1
  have e0 : lS g (As.reverse ++ vr a :: rest) = (lS g As).reverse ++ .ref (gad g a) :: lS g rest := by
    rw [lS_app, lS_rev, lS_cons]
    show _ ++ grf g a :: _ = _
    rw [grf_ne (h1.pos ht h0)]
  rw [e0]
  refine r_run (free := fun q => (xH g).size ≤ q) hR0 hn0 hs0 (va_runU (As := lS g As) (rest := lS g rest) ⟨hx, hb, hml, hown, hts⟩ hC (va_cwU n hts hw rfl rfl rfl hyx hds ⟨by rw [hf1]; exact hrm.1, by rw [hf2]; exact hrm.2⟩) ⟨ct_blind, ⟨cell, q1, by rw [q3]; rfl, by rw [q2]; exact hKn.2.1⟩, fun U hU hW => ⟨?_, by rw [hU]; exact h1, hCx.warm hW⟩⟩ rfl (by unfold lS; rw [List.length_map]; exact hn) h3.1 rfl ?_ hd ⟨?_, ?_⟩) (fun _ _ _ h => h) (fun q h => h) h2 h3 hq kk T9 hT9 X9
  · show (Value.ref (gad g a) :: lS g As).toArray = (grf g a :: As.map (lV g)).toArray
    rw [grf_ne (h1.pos ht h0)]
    rfl
  · exact lv_room (by rw [lS_sum]; exact h8)
  · rw [hRc, ← hn0]; omega
  · rw [hRs, ← hs0]; omega
set_option maxHeartbeats 4000000 in
theorem r_callA {x y : MethodName} {code : ByteArray} {mL fr' lo' idx t a N n : Nat} {ret : Option FieldType} {C owner : String} {T : u_T} {As rest : List lE} {r : Option lE} {G1 : gH} (hK : kOk K own cc nL fr lo) (hd : decode cc pc = .ok (.invokevirtual idx, 3)) (hC : Ct (kg K) (kl K) y code mL ret fr' lo' (vr a :: As) G r G1)
    (hw : GoodIn lw_all (va_wsU own idx C owner x y (ws_ y code mL ret))) (hyx : Cond.declares ⟨owner, x.name, x.desc⟩ ∈ lw_tbl) (hds : owner ≠ "java/lang/invoke/MethodHandle" ∧ owner ≠ "java/lang/invoke/VarHandle" ∧ (parseMethodDescriptor x.desc).map (fun d => d.parameters.length) = some n) (hn : As.length = n) (hc : gcl[t]? = some (C, T, N)) (h0 : 0 < t) (h64 : t < 64) (ht : gT G a = t)
    (hrm : fr' + 1 ≤ fr ∧ 8 + (mL + 11) + lo' ≤ lo) (hst : st = As.reverse ++ vr a :: rest) (h8 : (rest.map lcat).sum ≤ 8) (hq : pc + 3 = q) (kk : V K G1 q L (r.toList ++ rest)) : V K G pc L st := by
  obtain ⟨g, nL', n0, s0, p, l, e, R, s, m, args, below, meth, c, Q⟩ := K
  obtain ⟨rfl, hx, hb, hml, hown, hts, hCx, hlk, hf1, hf2, hRc, hRs, G0, hn0, hs0, hR0⟩ := hK
  subst hst
  intro H locs ls h1 h2 h3 T9 hT9 X9
  obtain ⟨g1, g2, -⟩ := st_grown hR0 (by rw [hT9]; exact h1) X9
  obtain ⟨cell, q1, q2, q3, q4⟩ := h1.obj ht h0 h64
  have hKn := hCx.1.1 t _ hc
  have hmax := h1.2.2.2.2.2.2.2.2.1
  have hmax2 := h1.2.2.2.2.2.2.2.2.2.1
  have e0 : lS g (As.reverse ++ vr a :: rest) = (lS g As).reverse ++ .ref (gad g a) :: lS g rest := by
    rw [lS_app, lS_rev, lS_cons]
    show _ ++ grf g a :: _ = _
    rw [grf_ne (h1.pos ht h0)]
  rw [e0]
  refine r_run (free := fun q => (xH g).size ≤ q) hR0 hn0 hs0 (va_runU (As := lS g As) (rest := lS g rest) ⟨hx, hb, hml, hown, hts⟩ hC (va_cwA n hts hw rfl rfl rfl (hCx.2.1 _ hyx rfl) hds ⟨by rw [hf1]; exact hrm.1, by rw [hf2]; exact hrm.2⟩) ⟨ct_blind, ⟨cell, q1, by rw [q3]; rfl, by rw [q2]; exact hKn.2.1⟩, fun U hU hW => ⟨?_, by rw [hU]; exact h1, hCx.warm hW⟩⟩ rfl (by unfold lS; rw [List.length_map]; exact hn) h3.1 rfl ?_ hd ⟨?_, ?_⟩) (fun _ _ _ h => h) (fun q h => h) h2 h3 hq kk T9 hT9 X9
  · show (Value.ref (gad g a) :: lS g As).toArray = (grf g a :: As.map (lV g)).toArray
    rw [grf_ne (h1.pos ht h0)]
    rfl
  · exact lv_room (by rw [lS_sum]; exact h8)
  · rw [hRc, ← hn0]; omega
  · rw [hRs, ← hs0]; omega
end RC2
