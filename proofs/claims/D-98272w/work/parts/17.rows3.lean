/-! ===== rows of references: null, comparisons, casts, arrays of references, arrays of arrays ===== -/
set_option maxRecDepth 100000
section RD
variable {K : kX} {own : String} {cc : ByteArray} {nL fr lo pc q : Nat} {G : gH} {L : List (Nat × lE)} {st : List lE}
theorem r_ifnull {a : Nat} {off : Int} {tgt : Nat} (hK : kOk K own cc nL fr lo) (hd : decode cc pc = .ok (.ifnull off, 3)) (ht : (pc : Int) + off = (tgt : Int)) (hq : pc + 3 = q) (kt : a = 0 → V K G tgt L st) (kf : ¬ a = 0 → V K G q L st) : V K G pc L (vr a :: st) := by
  obtain ⟨g, nL', n0, s0, p, l, e, R, s, m, args, below, meth, c, Q⟩ := K
  obtain ⟨rfl, hx, hb, -⟩ := hK
  subst hq
  intro H locs ls h1 h2 h3
  rw [lS_cons]
  show W p l e R s m args below meth c H locs _ _ Q (F0 m pc ls (grf g a :: lS g st))
  by_cases h0 : a = 0
  · rw [show grf g a = .null from if_pos h0]
    exact lv_ifnullN hx hb hd ht (kt h0 H locs ls h1 h2 h3)
  · rw [show grf g a = .ref (gad g a) from if_neg h0]
    exact lv_ifnull hx hb hd (kf h0 H locs ls h1 h2 h3)
theorem r_ifnonnull {a : Nat} {off : Int} {tgt : Nat} (hK : kOk K own cc nL fr lo) (hd : decode cc pc = .ok (.ifnonnull off, 3)) (ht : (pc : Int) + off = (tgt : Int)) (hq : pc + 3 = q) (kt : ¬ a = 0 → V K G tgt L st) (kf : a = 0 → V K G q L st) : V K G pc L (vr a :: st) := by
  obtain ⟨g, nL', n0, s0, p, l, e, R, s, m, args, below, meth, c, Q⟩ := K
  obtain ⟨rfl, hx, hb, -⟩ := hK
  subst hq
  intro H locs ls h1 h2 h3
  rw [lS_cons]
  show W p l e R s m args below meth c H locs _ _ Q (F0 m pc ls (grf g a :: lS g st))
  by_cases h0 : a = 0
  · rw [show grf g a = .null from if_pos h0]
    exact lv_ifnonnullN hx hb hd (kf h0 H locs ls h1 h2 h3)
  · rw [show grf g a = .ref (gad g a) from if_neg h0]
    exact lv_ifnonnull hx hb hd ht (kt h0 H locs ls h1 h2 h3)
/-- which references can be compared -/
def cmpb (G : gH) (a b : Nat) : Prop := gT G a ≠ 0 ∧ gT G b ≠ 0 ∧ (a = b ∨ 64 ≤ a ∨ 64 ≤ b)
theorem gad_inj {g : gX} {H : Heap} (hR : Rep g G H) {a b : Nat} (h : cmpb G a b) (he : gad g a = gad g b) : a = b := by
  obtain ⟨h1, h2, h3⟩ := h
  by_cases hab : a = b
  · exact hab
  · rcases h3 with h3 | h3 | h3
    · exact h3
    · exact absurd he.symm (gad_ne hR h3 h2 (fun h => hab h.symm))
    · exact absurd he (gad_ne hR h3 h1 hab)
theorem r_acmp_eq {a b : Nat} {off : Int} {tgt : Nat} (hK : kOk K own cc nL fr lo) (hd : decode cc pc = .ok (.if_acmp .eq off, 3)) (hc : cmpb G a b) (ht : (pc : Int) + off = (tgt : Int)) (hq : pc + 3 = q) (kt : a = b → V K G tgt L st) (kf : ¬ a = b → V K G q L st) : V K G pc L (vr b :: vr a :: st) := by
  obtain ⟨g, nL', n0, s0, p, l, e, R, s, m, args, below, meth, c, Q⟩ := K
  obtain ⟨rfl, hx, hb, -⟩ := hK
  subst hq
  intro H locs ls h1 h2 h3
  rw [lS_cons, lS_cons]
  have ea : lV g (vr a) = va_rf (some (gad g a)) := grf_ne (h1.pos rfl (Nat.pos_of_ne_zero hc.1))
  have eb : lV g (vr b) = va_rf (some (gad g b)) := grf_ne (h1.pos rfl (Nat.pos_of_ne_zero hc.2.1))
  rw [ea, eb]
  exact lv_acmp_eq hx hb hd ht (fun h => kt (gad_inj h1 hc (Option.some.inj h)) H locs ls h1 h2 h3) (fun h => kf (fun h9 => h (by rw [h9])) H locs ls h1 h2 h3)
theorem r_acmp_ne {a b : Nat} {off : Int} {tgt : Nat} (hK : kOk K own cc nL fr lo) (hd : decode cc pc = .ok (.if_acmp .ne off, 3)) (hc : cmpb G a b) (ht : (pc : Int) + off = (tgt : Int)) (hq : pc + 3 = q) (kt : ¬ a = b → V K G tgt L st) (kf : a = b → V K G q L st) : V K G pc L (vr b :: vr a :: st) := by
  obtain ⟨g, nL', n0, s0, p, l, e, R, s, m, args, below, meth, c, Q⟩ := K
  obtain ⟨rfl, hx, hb, -⟩ := hK
  subst hq
  intro H locs ls h1 h2 h3
  rw [lS_cons, lS_cons]
  have ea : lV g (vr a) = va_rf (some (gad g a)) := grf_ne (h1.pos rfl (Nat.pos_of_ne_zero hc.1))
  have eb : lV g (vr b) = va_rf (some (gad g b)) := grf_ne (h1.pos rfl (Nat.pos_of_ne_zero hc.2.1))
  rw [ea, eb]
  exact lv_acmp_ne hx hb hd ht (fun h => kt (fun h9 => h (by rw [h9])) H locs ls h1 h2 h3) (fun h => kf (gad_inj h1 hc (Option.some.inj h)) H locs ls h1 h2 h3)
theorem r_castS {a t idx N : Nat} {C : String} {T : u_T} (hK : kOk K own cc nL fr lo) (hd : decode cc pc = .ok (.checkcast idx, 3)) (hl : Cond.classLink own idx C ∈ lw_all) (hc : gcl[t]? = some (C, T, N)) (h0 : 0 < t) (h64 : t < 64) (ht : gT G a = t) (hq : pc + 3 = q) (k : V K G q L (vr a :: st)) : V K G pc L (vr a :: st) := by
  obtain ⟨g, nL', n0, s0, p, l, e, R, s, m, args, below, meth, c, Q⟩ := K
  obtain ⟨rfl, hx, hb, -, hown, hts, ⟨hKk, -⟩, -⟩ := hK
  subst hq
  intro H locs ls h1 h2 h3
  have k9 := k H locs ls h1 h2 h3
  rw [lS_cons] at k9 ⊢
  have ea : lV g (vr a) = .ref (gad g a) := grf_ne (h1.pos ht h0)
  rw [ea] at k9 ⊢
  obtain ⟨cell, q1, q2, q3, -⟩ := h1.obj ht h0 h64
  have hKn := hKk.1 t _ hc
  exact va_castS hx hb hown (hts _ hl) hKn.2 ⟨cell, q1, by rw [q3]; rfl, by rw [q2]; exact hKn.2.1⟩ hd k9
theorem r_castY {a t idx N : Nat} {C nm : String} {T : u_T} (hK : kOk K own cc nL fr lo) (hd : decode cc pc = .ok (.checkcast idx, 3)) (hl : Cond.classLink own idx nm ∈ lw_all) (hy : Cond.castable C nm ∈ lw_tbl) (hc : gcl[t]? = some (C, T, N)) (h0 : 0 < t) (h64 : t < 64) (ht : gT G a = t) (hq : pc + 3 = q) (k : V K G q L (vr a :: st)) : V K G pc L (vr a :: st) := by
  obtain ⟨g, nL', n0, s0, p, l, e, R, s, m, args, below, meth, c, Q⟩ := K
  obtain ⟨rfl, hx, hb, -, hown, hts, ⟨hKk, hNx, -⟩, -⟩ := hK
  subst hq
  intro H locs ls h1 h2 h3
  have k9 := k H locs ls h1 h2 h3
  rw [lS_cons] at k9 ⊢
  have ea : lV g (vr a) = .ref (gad g a) := grf_ne (h1.pos ht h0)
  rw [ea] at k9 ⊢
  obtain ⟨cell, q1, q2, q3, -⟩ := h1.obj ht h0 h64
  have hKn := hKk.1 t _ hc
  exact va_castY hx hb hown (hts _ hl) (hNx _ hy rfl) ⟨cell, q1, by rw [q3]; rfl, by rw [q2]; exact hKn.2.1⟩ hd k9
theorem r_instS {a t idx N : Nat} {C : String} {T : u_T} (hK : kOk K own cc nL fr lo) (hd : decode cc pc = .ok (.instanceof idx, 3)) (hl : Cond.classLink own idx C ∈ lw_all) (hc : gcl[t]? = some (C, T, N)) (h0 : 0 < t) (h64 : t < 64) (ht : gT G a = t) (hq : pc + 3 = q) (k : V K G q L (vi 1 :: st)) : V K G pc L (vr a :: st) := by
  obtain ⟨g, nL', n0, s0, p, l, e, R, s, m, args, below, meth, c, Q⟩ := K
  obtain ⟨rfl, hx, hb, -, hown, hts, ⟨hKk, -⟩, -⟩ := hK
  subst hq
  intro H locs ls h1 h2 h3
  have k9 := k H locs ls h1 h2 h3
  rw [lS_cons] at k9 ⊢
  have ea : lV g (vr a) = .ref (gad g a) := grf_ne (h1.pos ht h0)
  rw [ea]
  obtain ⟨cell, q1, q2, q3, -⟩ := h1.obj ht h0 h64
  have hKn := hKk.1 t _ hc
  intro T hT X
  obtain ⟨vm', X', st'⟩ := X.instanceofYes hx hown (hts _ hl) (by rw [hT]; exact q1) (by rw [q3]; rfl) hKn.2.1 (by rw [q2]; exact va_assign hKn.2) (g := F0 m pc ls (.ref (gad g a) :: lS g st)) rfl rfl (by rw [hb]; exact hd)
  obtain ⟨t2, a1, b1⟩ := k9 (T.setVm vm') hT X'
  exact ⟨t2, st' t2 a1, b1⟩
/-- a store into an array of references of an object whose class is the component's, or can be cast to it -/
theorem r_aastore {a b t tb j N : Nat} {i : Int32} {C E : String} {T : u_T} (hK : kOk K own cc nL fr lo) (hd : decode cc pc = .ok (.aastore, 1)) (hj : ∀ g, (gtys g)[j]? = some (xA g t, .object E)) (hty : ∀ n, gfty t n = .object E) (h64 : 64 ≤ t) (ht : gT G a = t) (hi : inb i (gL G a)) (ha : 64 ≤ a) (hc : gcl[tb]? = some (C, T, N)) (hb0 : 0 < tb) (hb64 : tb < 64) (htb : gT G b = tb)
    (hcs : C = E ∨ Cond.castable C E ∈ lw_tbl) (hq : pc + 1 = q) (kk : V K (sR G a i.toNatClampNeg b) q L st) : V K G pc L (vr b :: vi i :: vr a :: st) := by
  obtain ⟨g, nL', n0, s0, p, l, e, R, s, m, args, below, meth, c, Q⟩ := K
  obtain ⟨rfl, hx, hb, -, hown, hts, ⟨hKk, hNx, -⟩, -⟩ := hK
  subst hq
  intro H locs ls h1 h2 h3
  have hb1 : b ≠ 0 := h1.pos htb hb0
  have e0 : lS g (vr b :: vi i :: vr a :: st) = .ref (gad g b) :: .int i :: .ref (gad g a) :: lS g st := by
    rw [lS_cons, lS_cons, lS_cons]
    show grf g b :: _ :: grf g a :: _ = _
    rw [grf_ne (h1.pos ht (by omega)), grf_ne hb1]
    rfl
  rw [e0]
  have hlt : i.toNatClampNeg < gL G a := Nat.not_le.mp fun q => hi (Or.inr q)
  have hi0 : ¬ i < 0 := fun q => hi (Or.inl q)
  obtain ⟨cellV, g1, g2, g3, -⟩ := h1.obj htb hb0 hb64
  have hcls := (hKk.1 tb _ hc).2
  obtain ⟨kA, comp, k1, k2, k3, -⟩ := (hKk.2 j _ (hj g)).2
  have hass : s.vm.assignable cellV.cls comp = true := by
    rw [g2]
    rcases hcs with h | h
    · subst h
      have hcomp : comp = xC g tb := Option.some.inj (k3.symm.trans hcls.1)
      rw [hcomp]
      exact va_assign hcls
    · obtain ⟨c0, t0, f1, f2, f3⟩ := Cond.castable_spec (va_Nw.use (A := args) rfl (hNx _ h rfl))
      cases hcls.1.symm.trans f1
      cases k3.symm.trans f2
      exact f3
  have hcomp : ∃ kc, s.vm.classes[comp]? = some kc := by
    rcases hcs with h | h
    · subst h
      have hcomp : comp = xC g tb := Option.some.inj (k3.symm.trans hcls.1)
      rw [hcomp]
      obtain ⟨kC, hkC, -⟩ := hcls.2
      exact ⟨kC, hkC⟩
    · exact Vm.classAt_of_findClass k3
  obtain ⟨kc, hkc⟩ := hcomp
  obtain ⟨kC, hkC, -⟩ := hcls.2
  refine W.aast hx hb (h1.arr ht h64) (fun q h => by cases h) (fun h => by cases h) k1 k2 rfl hkc ⟨hi0, by show _ < (arrV _ _ _).slots.size; rw [arrV_size]; exact hlt⟩ g1 (fun q h => by rw [g3] at h; cases h) (by rw [g2]; exact hkC) hass rfl rfl hd fun H' e1 e2 e3 => ?_
  have e1' : H'[gad g a]? = some ((arrV (xA g t) (gL G a) (gval g G t a)).setSlot i.toNatClampNeg (lV g (vr b))) := by
    rw [e1]
    show _ = some (Cell.setSlot _ _ (grf g b))
    rw [grf_ne hb1]
  exact kk H' _ ls (rep_st (v := vr b) h1 isSt_R ha h64 ht (by rw [hty]; rfl) e1' e2 e3) (locs_add (a := gad g a) h2 (by rw [gad_new ha]; exact Nat.le_add_right _ _)) h3
theorem r_anew {idx t j N : Nat} {n : Int32} {C : String} (hK : kOk K own cc nL fr lo) (hd : decode cc pc = .ok (.anewarray idx, 3)) (hcl : Cond.classLink own idx C ∈ lw_all) (hao : ∀ U, Ax U → va_AO C U) (hj : ∀ g, (gtys g)[j]? = some (xA g t, .object C)) (hty : ∀ k, gfty t k = .object C) (h64 : 64 ≤ t)
    (hn : ¬ n < 0) (hN : n.toNatClampNeg = N) (hby : N * 4 ≤ 536870912) (hc1 : gN G < LIMC) (hs1 : gS G + N ≤ LIMS) (hq : pc + 3 = q) (kk : V K (nW G t N) q L (vr (gN G) :: st)) : V K G pc L (vi n :: st) := by
  obtain ⟨g, nL', n0, s0, p, l, e, R, s, m, args, below, meth, c, Q⟩ := K
  obtain ⟨rfl, hx, hb, -, hown, hts, ⟨hKk, hNx, hAx, -⟩, -, -, -, hRc, hRs, G0, rfl, rfl, hR0⟩ := hK
  subst hq
  subst hN
  intro H locs ls h1 h2 h3 T hT X
  obtain ⟨g1, g2, X2⟩ := st_grown hR0 (by rw [hT]; exact h1) X
  refine (show W p l e R s m args below meth c H locs (gN G - gN G0) (gS G - gS G0) Q (F0 m pc ls (.int n :: lS g st)) from ?_) T hT X
  refine W.anew (rest := lS g st) hx hb hown (hts _ hcl) (va_AO.use (hao s hAx)) rfl hd rfl hn hby (by rw [hRc]; omega) (by rw [hRs]; omega) (fun cA kA comp k1 k2 k3 k4 => ?_)
  obtain ⟨kA', comp', q1, q2, q3, q4⟩ := (hKk.2 j _ (hj g)).2
  have hcc : cA = xA g t := Option.some.inj (k1.symm.trans q4)
  subst hcc
  obtain ⟨hR', hrf⟩ := h1.new (H' := H.push ({ cls := xA g t, slots := Array.replicate n.toNatClampNeg .null, vm := .none } : Cell)) (t := t) (n := n.toNatClampNeg) (by omega) hc1 hs1 (by simp) (fun q hq => by rw [Array.getElem?_push, if_neg (Nat.ne_of_lt hq)]) (by rw [ssum_push _ (by have := h1.1; have := h1.2.1; omega)]; simp) ⟨_, Array.getElem?_push_size, rfl, rfl, by simp⟩ (fun h => absurd h (by omega)) (fun _ => by
    rw [Array.getElem?_push, if_pos rfl, arrV_new]
    congr 2
    funext k
    unfold gval
    rw [hty, gvt_new rfl]
    rfl)
  have k9 := kk _ locs ls hR' h2 h3
  rw [lS_cons] at k9
  have e8 : lV g (vr (gN G)) = .ref H.size := hrf
  rw [e8] at k9
  have hn1 : gN (nW G t n.toNatClampNeg) = gN G + 1 := rfl
  have hs2 : gS (nW G t n.toNatClampNeg) = gS G + n.toNatClampNeg := rfl
  rw [hn1, hs2, show gN G + 1 - gN G0 = gN G - gN G0 + 1 by omega, show gS G + n.toNatClampNeg - gS G0 = gS G - gS G0 + n.toNatClampNeg by omega] at k9
  exact k9
end RD
/-- new boolean[n][k] on the abstract heap: i rows made -/
def gfill (G : gH) (n k : Nat) : Nat → gH
  | 0 => nW G 73 n
  | i + 1 => sR (nW (gfill G n k i) 66 k) (gN G) i (gN (gfill G n k i))
theorem gfill_N {G : gH} {n k : Nat} : ∀ i, gN (gfill G n k i) = gN G + 1 + i := by
  intro i
  induction i with
  | zero => rfl
  | succ i ih =>
    show gN (gfill G n k i) + 1 = _
    rw [ih]
    omega
theorem gfill_S {G : gH} {n k : Nat} : ∀ i, gS (gfill G n k i) = gS G + n + i * k := by
  intro i
  induction i with
  | zero => show gS G + n = _; omega
  | succ i ih =>
    show gS (gfill G n k i) + k = _
    rw [ih, Nat.succ_mul]
    omega
theorem gfill_T {G : gH} {n k : Nat} : ∀ i, gT (gfill G n k i) (gN G) = 73 ∧ gL (gfill G n k i) (gN G) = n := by
  intro i
  induction i with
  | zero => exact ⟨if_pos rfl, if_pos rfl⟩
  | succ i ih =>
    have hne : gN G ≠ gN (gfill G n k i) := by rw [gfill_N]; omega
    exact ⟨(if_neg hne).trans ih.1, (if_neg hne).trans ih.2⟩
theorem rep_fill {g : gX} {G : gH} {s : State} {N M : Nat} (hR : Rep g G s.heap) (hN : gN G + 1 + N ≤ LIMC) (hS : gS G + N + N * M ≤ LIMS) : ∀ i, i ≤ N → Rep g (gfill G N M i) (Jvm.Free.Multi.fill s (xA g 73) (xA g 66) N M (.int 0) i).heap ∧ (Jvm.Free.Multi.fill s (xA g 73) (xA g 66) N M (.int 0) i).heap.size = s.heap.size + 1 + i ∧ gad g (gN G) = s.heap.size := by
  have hA : gad g (gN G) = s.heap.size := by rw [gad_new hR.1, hR.2.1]
  intro i
  induction i with
  | zero =>
    intro _
    have hpush : (Jvm.Free.Multi.fill s (xA g 73) (xA g 66) N M (.int 0) 0).heap = s.heap.push (Jvm.Free.Multi.outerC (xA g 73) N s.heap.size 0) := by
      show (s.pushCell _).heap = _
      simp [State.pushCell]
    rw [hpush]
    refine ⟨(hR.new (H' := s.heap.push (Jvm.Free.Multi.outerC (xA g 73) N s.heap.size 0)) (t := 73) (n := N) (by decide) (by omega) (by have := Nat.zero_le (N * M); omega) (by simp) (fun q hq => by rw [Array.getElem?_push, if_neg (Nat.ne_of_lt hq)]) (by rw [ssum_push _ (by have := hR.1; have := hR.2.1; omega)]; simp [Jvm.Free.Multi.outerC]) ⟨_, Array.getElem?_push_size, rfl, rfl, by simp [Jvm.Free.Multi.outerC]⟩ (fun h => absurd h (by decide)) (fun _ => ?_)).1, by simp, hA⟩
    rw [Array.getElem?_push, if_pos rfl]
    show some ({ cls := xA g 73, slots := Array.replicate N .null, vm := .none } : Cell) = _
    rw [arrV_new]
    congr 2
    funext k
    show _ = gvt g _ (.array .boolean) (gN G) k
    rw [gvt_new rfl]
    rfl
  | succ i ih =>
    intro hi
    obtain ⟨ihR, ihz, -⟩ := ih (by omega)
    generalize hF : Jvm.Free.Multi.fill s (xA g 73) (xA g 66) N M (.int 0) i = F at ihR ihz
    have hNi := gfill_N (G := G) (n := N) (k := M) i
    have hSi := gfill_S (G := G) (n := N) (k := M) i
    have hmul : i * M + M ≤ N * M := by
      rw [← Nat.succ_mul]
      exact Nat.mul_le_mul_right M hi
    have hpush : (F.pushCell (Jvm.Free.Multi.innerC (xA g 66) M (.int 0))).heap = F.heap.push (Jvm.Free.Multi.innerC (xA g 66) M (.int 0)) := by simp [State.pushCell]
    have hR1 := (ihR.new (H' := F.heap.push (Jvm.Free.Multi.innerC (xA g 66) M (.int 0))) (t := 66) (n := M) (by decide) (by rw [hNi]; omega) (by rw [hSi]; omega) (by simp) (fun q hq => by rw [Array.getElem?_push, if_neg (Nat.ne_of_lt hq)]) (by rw [ssum_push _ (by have := ihR.1; have := ihR.2.1; omega)]; simp [Jvm.Free.Multi.innerC]) ⟨_, Array.getElem?_push_size, rfl, rfl, by simp [Jvm.Free.Multi.innerC]⟩ (fun h => absurd h (by decide)) (fun _ => by
      rw [Array.getElem?_push, if_pos rfl]
      show some ({ cls := xA g 66, slots := Array.replicate M (.int 0), vm := .none } : Cell) = _
      rw [arrV_new]
      congr 2
      funext k
      show _ = gvt g _ .boolean (gN (gfill G N M i)) k
      rw [gvt_new rfl]
      rfl))
    obtain ⟨hR2, hrf⟩ := hR1
    have hfe : (Jvm.Free.Multi.fill s (xA g 73) (xA g 66) N M (.int 0) (i + 1)) = (F.pushCell (Jvm.Free.Multi.innerC (xA g 66) M (.int 0))).setCell s.heap.size (Jvm.Free.Multi.outerC (xA g 73) N s.heap.size (i + 1)) := by
      rw [← hF]
      rfl
    have hff := Jvm.Free.Multi.fill_facts s (xA g 73) (xA g 66) N M (.int 0) i
    rw [hF] at hff
    have hout : F.heap[s.heap.size]? = some (Jvm.Free.Multi.outerC (xA g 73) N s.heap.size i) := hff.2.1
    have hlt : s.heap.size < (F.pushCell (Jvm.Free.Multi.innerC (xA g 66) M (.int 0))).heap.size := by
      rw [hpush]
      simp
      omega
    rw [hfe]
    have hTT := gfill_T (G := G) (n := N) (k := M) i
    have hne : gN G ≠ gN (gfill G N M i) := by rw [hNi]; omega
    have hT1 : gT (nW (gfill G N M i) 66 M) (gN G) = 73 := (if_neg hne).trans hTT.1
    have hL1 : gL (nW (gfill G N M i) 66 M) (gN G) = N := (if_neg hne).trans hTT.2
    have hcellO := hR2.arr hT1 (by decide)
    rw [hA, hL1] at hcellO
    have hcell2 : (F.heap.push (Jvm.Free.Multi.innerC (xA g 66) M (.int 0)))[s.heap.size]? = some (Jvm.Free.Multi.outerC (xA g 73) N s.heap.size i) := by
      rw [Array.getElem?_push, if_neg (by omega)]
      exact hout
    have hsame : Jvm.Free.Multi.outerC (xA g 73) N s.heap.size i = arrV (xA g 73) N (gval g (nW (gfill G N M i) 66 M) 73 (gN G)) := Option.some.inj (hcell2.symm.trans hcellO)
    refine ⟨?_, by rw [size_setCell, hpush]; simp; omega, hA⟩
    refine rep_st (t := 73) (k := i) (v := vr (gN (gfill G N M i))) hR2 isSt_R hR.1 (by decide) hT1 rfl ?_ (by rw [size_setCell, hpush]) (fun q hq => ?_)
    · rw [hA, heapAt_setCell_self _ hlt, hL1]
      show some ((Jvm.Free.Multi.outerC (xA g 73) N s.heap.size i).setSlot i (.ref (s.heap.size + 1 + i))) = _
      rw [hsame]
      congr 2
      show _ = grf g (gN (gfill G N M i))
      rw [hrf, ihz]
    · rw [hA] at hq
      rw [heapAt_setCell_ne _ (Ne.symm hq), hpush]
section RE
variable {K : kX} {own : String} {cc : ByteArray} {nL fr lo pc q : Nat} {G : gH} {L : List (Nat × lE)} {st : List lE}
set_option maxHeartbeats 4000000 in
theorem r_multi {idx N M : Nat} {n k : Int32} (hK : kOk K own cc nL fr lo) (hd : decode cc pc = .ok (.multianewarray idx 2, 4)) (hcl : Cond.classLink own idx "[[Z" ∈ lw_all) (hov : ∀ (U : State), xX (kg K) U → (Cond.arrayOver (.array .boolean)).before #[] U = true) (hac : Cond.arrayClass .boolean ∈ lw_all)
    (hn : ¬ n < 0) (hk : ¬ k < 0) (hN : n.toNatClampNeg = N) (hM : k.toNatClampNeg = M) (hb : N * 4 ≤ 536870912 ∧ M ≤ 536870912) (hc1 : gN G + 1 + N ≤ LIMC) (hs1 : gS G + N + N * M ≤ LIMS) (hq : pc + 4 = q) (kk : V K (gfill G N M N) q L (vr (gN G) :: st)) : V K G pc L (vi k :: vi n :: st) := by
  obtain ⟨g, nL', n0, s0, p, l, e, R, s, m, args, below, meth, c, Q⟩ := K
  obtain ⟨rfl, hx, hbc, -, hown, hts, ⟨hKk, hNx, hAx, hXx, -⟩, -, -, -, hRc, hRs, G0, rfl, rfl, hR0⟩ := hK
  subst hq
  subst hN
  subst hM
  intro H locs ls h1 h2 h3 T hT X
  obtain ⟨g1, g2, X2⟩ := st_grown hR0 (by rw [hT]; exact h1) X
  have hov9 : (Cond.arrayOver (.array .boolean)).before args s = true := hov s hXx
  obtain ⟨vm₁, cA, comp, hW, hfA, hfC, hO, hI, X1, step⟩ := X2.multianewarray2F hx hown (hts _ hcl) hov9 (hts _ hac) (g := F0 m pc ls (.int k :: .int n :: lS g st)) rfl (by rw [hbc]; exact hd) rfl hn hk hb.1 (by show _ * 1 ≤ _; rw [Nat.mul_one]; exact hb.2) hb.2 rfl rfl (by rw [hRc]; omega) (by rw [hRs]; omega)
  have hcA : cA = xA g 73 := by
    have := (hKk.2 7 _ rfl).2
    exact Option.some.inj (hfA.symm.trans this)
  have hcc : comp = xA g 66 := by
    have := (hKk.2 2 _ rfl).2
    exact Option.some.inj (hfC.symm.trans this)
  subst hcA
  subst hcc
  have hRf := (rep_fill (s := T.setVm vm₁) (N := n.toNatClampNeg) (M := k.toNatClampNeg) (show Rep g G (T.setVm vm₁).heap by rw [show (T.setVm vm₁).heap = T.heap from rfl, hT]; exact h1) hc1 hs1 n.toNatClampNeg (Nat.le_refl _))
  obtain ⟨-, -, X3⟩ := st_grown hR0 hRf.1 X1
  have k9 := kk _ locs ls hRf.1 h2 h3 _ rfl X3
  obtain ⟨t2, a1, b1⟩ := k9
  refine ⟨t2, step t2 ?_, b1⟩
  rw [lS_cons] at a1
  have e8 : lV g (vr (gN G)) = .ref T.heap.size := by
    show grf g (gN G) = _
    rw [grf_ne (by have := h1.1; omega), hRf.2.2]
    rfl
  rw [e8] at a1
  exact a1
end RE
