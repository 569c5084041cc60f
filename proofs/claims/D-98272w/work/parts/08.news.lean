/-! ===== rows of new cells ===== -/
set_option maxRecDepth 100000
section RB
variable {K : kX} {own : String} {cc : ByteArray} {nL fr lo pc q : Nat} {G : gH} {L : List (Nat × lE)} {st : List lE}
theorem r_new {idx t N ns : Nat} {C : String} {T : u_T} {ty0 : Nat → FieldType} (hK : kOk K own cc nL fr lo) (hd : decode cc pc = .ok (.new idx, 3)) (hc : gcl[t]? = some (C, T, N)) (hin : ∀ w ∈ u_ws C T N, w ∈ lw_all) (hty : ∀ k, k < N → parseFieldDescriptor (T k).2.2.1 = some (ty0 k)) (hok : ∀ k, k < N → okty (ty0 k) = true) (hgt : gfty t = ty0)
    (hcl : Cond.classLink own idx C ∈ lw_all) (hins : Cond.instantiable C ns ∈ lw_all) (hini : Cond.initialized C ∈ lw_all) (h0 : 0 < t) (h64 : t < 64) (hc1 : gN G < LIMC) (hs1 : gS G + ns ≤ LIMS) (hq : pc + 3 = q) (kk : V K (nW G t ns) q L (vr (gN G) :: st)) : V K G pc L st := by
  obtain ⟨g, nL', n0, s0, p, l, e, R, s, m, args, below, meth, c, Q⟩ := K
  obtain ⟨rfl, hx, hb, -, hown, hts, ⟨hKk, -⟩, -, -, -, hRc, hRs, G0, rfl, rfl, hR0⟩ := hK
  subst hq
  intro H locs ls h1 h2 h3 T hT X
  obtain ⟨g1, g2, X2⟩ := st_grown hR0 (by rw [hT]; exact h1) X
  have hKn := hKk.1 t _ hc
  refine (show W p l e R s m args below meth c H locs (gN G - gN G0) (gS G - gS G0) Q (F0 m pc ls (lS g st)) from ?_) T hT X
  refine W.newc hx hb hown (hts _ hcl) (hts _ hins) (hts _ hini) rfl hd (by rw [hRc]; omega) (by rw [hRs]; omega) (fun cC kC k1 k2 k3 k4 => ?_)
  have hcc : cC = xC g t := Option.some.inj (k1.symm.trans hKn.2.1)
  subst hcc
  have e1 : (H.push ({ cls := xC g t, slots := kC.instanceTypes.map defaultValue, vm := .none } : Cell))[H.size]? = some (blank (xC g t) kC) := by simp [blank]
  have hborn := u_born ty0 hts hin hKn k2 e1 hty
  have hg : gnf t = N := by simp [gnf, hc]
  obtain ⟨hR', hrf⟩ := h1.new (H' := H.push ({ cls := xC g t, slots := kC.instanceTypes.map defaultValue, vm := .none } : Cell)) (t := t) (n := ns) h0 hc1 hs1 (by simp) (fun q hq => by rw [Array.getElem?_push, if_neg (Nat.ne_of_lt hq)]) (by rw [ssum_push _ (by have := h1.1; have := h1.2.1; omega)]; simp [k4]) ⟨_, e1, rfl, rfl, by simp [blank, k4]⟩ (fun _ => by
    rw [hg]
    refine hborn.to fun k hk => ?_
    unfold gval
    rw [hgt, gvt_new (hok k hk)]) (fun h => absurd h (by omega))
  have k9 := kk _ locs ls hR' h2 h3
  rw [lS_cons] at k9
  have e8 : lV g (vr (gN G)) = .ref H.size := hrf
  rw [e8] at k9
  have hn1 : gN (nW G t ns) = gN G + 1 := rfl
  have hs2 : gS (nW G t ns) = gS G + ns := rfl
  rw [hn1, hs2, show gN G + 1 - gN G0 = gN G - gN G0 + 1 by omega, show gS G + ns - gS G0 = gS G - gS G0 + ns by omega] at k9
  exact k9
theorem r_newa {atype : ArrayType} {ty : FieldType} {t j N : Nat} {n : Int32} (hK : kOk K own cc nL fr lo) (hd : decode cc pc = .ok (.newarray atype, 2)) (hat : newarray.typeOf atype = ty) (hw : Cond.arrayClass ty ∈ lw_all) (hj : ∀ g, (gtys g)[j]? = some (xA g t, ty)) (hty : ∀ k, gfty t k = ty) (hra : ∀ (U : State) (cA : ClassId), va_RA U cA ty → U.vm.findClass ("[" ++ ty.toString) = some cA) (hok : okty ty = true) (h64 : 64 ≤ t)
    (hn : ¬ n < 0) (hN : n.toNatClampNeg = N) (hby : N * componentBytes ty ≤ 536870912) (hc1 : gN G < LIMC) (hs1 : gS G + N ≤ LIMS) (hq : pc + 2 = q) (kk : V K (nW G t N) q L (vr (gN G) :: st)) : V K G pc L (vi n :: st) := by
  obtain ⟨g, nL', n0, s0, p, l, e, R, s, m, args, below, meth, c, Q⟩ := K
  obtain ⟨rfl, hx, hb, -, hown, hts, ⟨hKk, -⟩, -, -, -, hRc, hRs, G0, rfl, rfl, hR0⟩ := hK
  subst hq
  subst hat
  subst hN
  intro H locs ls h1 h2 h3 T hT X
  obtain ⟨g1, g2, X2⟩ := st_grown hR0 (by rw [hT]; exact h1) X
  refine (show W p l e R s m args below meth c H locs (gN G - gN G0) (gS G - gS G0) Q (F0 m pc ls (.int n :: lS g st)) from ?_) T hT X
  refine W.newa (rest := lS g st) hx hb (hts _ hw) rfl hd rfl hn hby (by rw [hRc]; omega) (by rw [hRs]; omega) (fun cA kA comp k1 k2 k3 => ?_)
  have hcc : cA = xA g t := Option.some.inj (k1.symm.trans (hra _ _ (hKk.2 j _ (hj g)).2))
  subst hcc
  obtain ⟨hR', hrf⟩ := h1.new (H' := H.push ({ cls := xA g t, slots := Array.replicate n.toNatClampNeg (defaultValue (newarray.typeOf atype)), vm := .none } : Cell)) (t := t) (n := n.toNatClampNeg) (by omega) hc1 hs1 (by simp) (fun q hq => by rw [Array.getElem?_push, if_neg (Nat.ne_of_lt hq)]) (by rw [ssum_push _ (by have := h1.1; have := h1.2.1; omega)]; simp) ⟨_, Array.getElem?_push_size, rfl, rfl, by simp⟩ (fun h => absurd h (by omega)) (fun _ => by
    rw [Array.getElem?_push, if_pos rfl, arrV_new]
    congr 2
    funext k
    unfold gval
    rw [hty, gvt_new hok])
  have k9 := kk _ locs ls hR' h2 h3
  rw [lS_cons] at k9
  have e8 : lV g (vr (gN G)) = .ref H.size := hrf
  rw [e8] at k9
  have hn1 : gN (nW G t n.toNatClampNeg) = gN G + 1 := rfl
  have hs2 : gS (nW G t n.toNatClampNeg) = gS G + n.toNatClampNeg := rfl
  rw [hn1, hs2, show gN G + 1 - gN G0 = gN G - gN G0 + 1 by omega, show gS G + n.toNatClampNeg - gS G0 = gS G - gS G0 + n.toNatClampNeg by omega] at k9
  exact k9
end RB
