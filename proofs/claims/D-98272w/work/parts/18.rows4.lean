/-! ===== statics, String constants, System.arraycopy ===== -/
set_option maxRecDepth 100000
theorem kit_copied (c0 c1 : ClassId) {n0 n1 sp dp n : Nat} (f h : Nat → Value) (hs : sp + n ≤ n0) : (arrV c1 n1 h).storeRun dp ((arrV c0 n0 f).stretch sp n) = arrV c1 n1 (va_cpy f h sp dp n) := va_copied (fun z => z) c0 c1 f h hs
/-- n places of the cell b, from sp on, go to the cell a, from dp on -/
def cpI (G : gH) (b sp a dp n : Nat) : gH := ((fun x y => if x = a ∧ dp ≤ y ∧ y < dp + n then gI G b (sp + (y - dp)) else gI G x y), G.2)
theorem cpI_ne {G : gH} {b sp a dp n x y : Nat} (h : ¬ (x = a ∧ dp ≤ y ∧ y < dp + n)) : gI (cpI G b sp a dp n) x y = gI G x y := if_neg h
theorem cpI_eq {G : gH} {b sp a dp n y : Nat} (h : dp ≤ y ∧ y < dp + n) : gI (cpI G b sp a dp n) a y = gI G b (sp + (y - dp)) := if_pos ⟨rfl, h⟩
/-- what may be copied -/
def fitn (G : gH) (t b sp n : Nat) : Prop := match t with
  | 64 => True
  | 65 => ∀ i, i < n → (gI G b (sp + i)).toInt8.toInt32 = gI G b (sp + i)
  | 66 => ∀ i, i < n → gI G b (sp + i) = 0 ∨ gI G b (sp + i) = 1
  | _ => False
theorem fitn_fits {G : gH} {t b sp n : Nat} (h : fitn G t b sp n) : ∀ i, i < n → fits (gfty t 0) (.int (gI G b (sp + i))) = true := by
  intro i hi
  unfold fitn at h
  split at h
  · rfl
  · exact (fitv_b (h i hi) ((fun _ => 0), (fun _ _ => 0), (fun _ => 0), (fun _ => 0), #[], fun _ => True)).2
  · exact (fitv_z (h i hi) ((fun _ => 0), (fun _ _ => 0), (fun _ => 0), (fun _ => 0), #[], fun _ => True)).2
  · exact h.elim
/-! Throwable's two statics (rows of kit/laws/EXCEPTIONS.to-paste) -/
/-- the words of a throw but the four that speak of the heap -/
def vw_no (w : Cond) : Bool := decide (w ≠ .isRef (.static Bundle.tN "UNASSIGNED_STACK" Bundle.steD)) && decide (w ≠ .isRef (.static Bundle.tN "SUPPRESSED_SENTINEL" Bundle.listD)) && decide (w ≠ .laysStatic Bundle.tN "UNASSIGNED_STACK" Bundle.steD) && decide (w ≠ .laysStatic Bundle.tN "SUPPRESSED_SENTINEL" Bundle.listD)
def vw_at0 (own : String) (ic : Nat) (X : String) (names : List String) : List Cond := (Bundle.ownAtoms0 own ic X names).filter vw_no
def vw_atS (own : String) (ic : Nat) (X : String) (names : List String) : List Cond := (Bundle.ownAtoms own ic X names).filter vw_no
/-- a word that the tables alone decide, or a good one -/
def vw_ot (w : Cond) : Bool := w.onTables || goodWord w
theorem vw_ot_at {args a' : Array Value} {s U : State} {w : Cond} (hW : s.WarmedH U.vm) (hvm : s.vm = U.vm) (hg : vw_ot w = true) (h : w.before args s = true) : w.before a' U = true := by
  simp only [vw_ot, Bool.or_eq_true] at hg
  rcases hg with hg | hg
  · exact va_tabs hg hvm h
  · exact word_at hW (good_of_word hg) h
/-- a list's words: the good ones out of the method's own list, the others by premises of their own -/
theorem vw_hat {args : Array Value} {s : State} {L B : List Cond} (h1 : ∀ w ∈ L.filter goodWord, w.before args s = true) (h2 : ∀ w ∈ L.filter (fun w => !goodWord w), w ∈ B) (h3 : ∀ w ∈ B, w.before args s = true) : ∀ w ∈ L, w.before args s = true := by
  intro w hw
  by_cases g : goodWord w = true
  · exact h1 w (List.mem_filter.mpr ⟨hw, g⟩)
  · refine h3 w (h2 w (List.mem_filter.mpr ⟨hw, ?_⟩))
    show (!goodWord w) = true
    cases hgw : goodWord w
    · rfl
    · exact absurd hgw g
theorem vw_c {args : Array Value} {s : State} {w : Cond} {B : List Cond} (h : w.before args s = true) (t : ∀ w ∈ B, w.before args s = true) : ∀ w' ∈ w :: B, w'.before args s = true := fun w' h' => (List.mem_cons.mp h').elim (fun e => by rw [e]; exact h) (t w')
theorem vw_n {args : Array Value} {s : State} : ∀ w ∈ ([] : List Cond), w.before args s = true := fun _ h => nomatch h
theorem vw_own {args : Array Value} {s : State} {L : List Cond} (h1 : ∀ w ∈ L.filter vw_no, w.before args s = true)
    (hU : (Cond.isRef (.static Bundle.tN "UNASSIGNED_STACK" Bundle.steD)).before args s = true) (hN : (Cond.isRef (.static Bundle.tN "SUPPRESSED_SENTINEL" Bundle.listD)).before args s = true)
    (lU : (Cond.laysStatic Bundle.tN "UNASSIGNED_STACK" Bundle.steD).before args s = true) (lN : (Cond.laysStatic Bundle.tN "SUPPRESSED_SENTINEL" Bundle.listD).before args s = true) : ∀ w ∈ L, w.before args s = true := by
  intro w hw
  by_cases e1 : w = .isRef (.static Bundle.tN "UNASSIGNED_STACK" Bundle.steD)
  · rw [e1]; exact hU
  · by_cases e2 : w = .isRef (.static Bundle.tN "SUPPRESSED_SENTINEL" Bundle.listD)
    · rw [e2]; exact hN
    · by_cases e3 : w = .laysStatic Bundle.tN "UNASSIGNED_STACK" Bundle.steD
      · rw [e3]; exact lU
      · by_cases e4 : w = .laysStatic Bundle.tN "SUPPRESSED_SENTINEL" Bundle.listD
        · rw [e4]; exact lN
        · exact h1 w (List.mem_filter.mpr ⟨hw, by unfold vw_no; rw [decide_eq_true e1, decide_eq_true e2, decide_eq_true e3, decide_eq_true e4]; rfl⟩)
/-- where a static field lies, its class's statics cell in H -/
def vw_L (C n d : String) (A : Nat → Prop) (U : State) (H : Heap) : Prop := ∃ (c : ClassId) (k : Class) (i : Nat) (f : Field) (a : Nat) (cell : Cell), U.vm.findClass C = some c ∧ U.fieldFound? C n d = some (c, k, i, f) ∧ f.isStatic = true ∧ k.statics = some a ∧ H[a]? = some cell ∧ cell.vm.isStatics = true ∧ cell.cls = c ∧ f.slot < cell.slots.size ∧ k.staticTypes[f.slot]? = some f.type ∧ ¬ A a
theorem vw_L.moved {C n d : String} {A : Nat → Prop} {u U : State} {H : Heap} (hvm : u.vm.Alike U.vm) (h : vw_L C n d A u H) : vw_L C n d A U H := by
  obtain ⟨c, k, i, f, a, cell, h1, h2, h3, h4, h5, h6, h7, h8, h9, h10⟩ := h
  obtain ⟨k', hi', he⟩ := State.fieldFound?_setVm hvm h2
  exact ⟨c, k', i, f, a, cell, by rw [hvm.findClass]; exact h1, hi', h3, by rw [he]; exact h4, h5, h6, h7, h8, by rw [he]; exact h9, h10⟩
theorem vw_L.kept {C n d : String} {A : Nat → Prop} {U : State} {H H1 : Heap} (h : vw_L C n d A U H) (hq : ∀ a : Nat, a < H.size → ¬ A a → H1[a]? = H[a]?) : vw_L C n d A U H1 := by
  obtain ⟨c, k, i, f, a, cell, h1, h2, h3, h4, h5, h6, h7, h8, h9, h10⟩ := h
  exact ⟨c, k, i, f, a, cell, h1, h2, h3, h4, by rw [hq a (Array.getElem?_eq_some_iff.mp h5).1 h10]; exact h5, h6, h7, h8, h9, h10⟩
theorem vw_L.narrow {C n d : String} {A B : Nat → Prop} {U : State} {H : Heap} (h : vw_L C n d A U H) (hAB : ∀ q, B q → A q) : vw_L C n d B U H := by
  obtain ⟨c, k, i, f, a, cell, h1, h2, h3, h4, h5, h6, h7, h8, h9, h10⟩ := h
  exact ⟨c, k, i, f, a, cell, h1, h2, h3, h4, h5, h6, h7, h8, h9, fun z => h10 (hAB _ z)⟩
theorem vw_L.word {C n d : String} {A : Nat → Prop} {s : State} {args : Array Value} (h : vw_L C n d A s s.heap) : (Cond.laysStatic C n d).before args s = true := by
  obtain ⟨c, k, i, f, a, cell, h1, h2, h3, h4, h5, h6, h7, h8, h9, -⟩ := h
  show (Cond.laysStatic C n d).holds args s none s [] = true
  exact Cond.laysStatic_of h1 h2 h3 h4 h5 h6 h7 h8 h9
/-- .. and what it holds: null or some reference -/
def vw_Zq (C n d : String) (A : Nat → Prop) (U : State) (H : Heap) : Prop := va_Zq C n d A U H ∧ vw_L C n d A U H
theorem vw_Zq.moved {C n d : String} {A : Nat → Prop} {u U : State} {H : Heap} (hvm : u.vm.Alike U.vm) (h : vw_Zq C n d A u H) : vw_Zq C n d A U H := ⟨va_Zq.moved hvm h.1, vw_L.moved hvm h.2⟩
theorem vw_Zq.kept {C n d : String} {A : Nat → Prop} {U : State} {H H1 : Heap} (h : vw_Zq C n d A U H) (hq : ∀ a : Nat, a < H.size → ¬ A a → H1[a]? = H[a]?) : vw_Zq C n d A U H1 := ⟨va_Zq.kept h.1 hq, vw_L.kept h.2 hq⟩
theorem vw_Zq.narrow {C n d : String} {A B : Nat → Prop} {U : State} {H : Heap} (h : vw_Zq C n d A U H) (hAB : ∀ q, B q → A q) : vw_Zq C n d B U H := ⟨va_Zq.narrow h.1 hAB, vw_L.narrow h.2 hAB⟩
theorem vw_Zqof {args : Array Value} {s : State} {C n d : String} {A : Nat → Prop} (hl : (Cond.laysStatic C n d).before args s = true) (hini : (Cond.initialized C).before args s = true) (h : (Cond.isRef (.static C n d)).before args s = true) (hA : ∀ a : Nat, a < s.heap.size → ¬ A a) : vw_Zq C n d A s s.heap := by
  refine ⟨va_Zqof hl hini h hA, ?_⟩
  obtain ⟨c, k, i, f, a, cell, h1, h2, h3, h4, h5, h6, h7, h8, h9⟩ := Cond.laysStatic_spec hl
  exact ⟨c, k, i, f, a, cell, h1, h2, h3, h4, h5, h6, h7, h8, h9, hA a (Array.getElem?_eq_some_iff.mp h5).1⟩
theorem vw_isRef {C n d : String} {v : Value} {A : Nat → Prop} {s : State} {args : Array Value} (h : va_Z C n d v A s s.heap) (hv : v.isRef = true) : (Cond.isRef (.static C n d)).before args s = true := by
  obtain ⟨cf, kf, fi, f, a, cell, h1, h2, h3, h4, h5, h6, h7, -⟩ := h
  have he : (Term.static C n d).eval args s none [] s = some v := by
    simp [Term.eval, State.fieldNamed?, h1, h2, h4, h5, h6, h7]
  simp only [Cond.before, Cond.holds, Cond.value, he]
  cases v <;> simp_all [Value.isRef]
theorem vw_isRefq {C n d : String} {A : Nat → Prop} {s : State} {args : Array Value} (h : va_Zq C n d A s s.heap) : (Cond.isRef (.static C n d)).before args s = true := by
  rcases h with h | ⟨t, h⟩
  · exact vw_isRef h rfl
  · exact vw_isRef h rfl
/-- what is known of the heap at the start, beside the tables -/
def oX (od : Nat → Nat) (HB : Heap) (U : State) : Prop :=
  (Cond.arrayOver (.array .boolean)).before #[] U = true ∧
  va_Z "java/lang/String" "COMPACT_STRINGS" "Z" (.int 1) (fun q => HB.size ≤ q) U HB ∧
  va_Z "java/util/ArrayList" "DEFAULTCAPACITY_EMPTY_ELEMENTDATA" "[Ljava/lang/Object;" (.ref (od 62)) (fun q => HB.size ≤ q) U HB ∧
  vw_Zq Bundle.tN "UNASSIGNED_STACK" Bundle.steD (fun q => HB.size ≤ q) U HB ∧
  vw_Zq Bundle.tN "SUPPRESSED_SENTINEL" Bundle.listD (fun q => HB.size ≤ q) U HB ∧
  vk_R "WellPromises$Reader" 9 "" (od 1) U ∧
  vk_R "WellPromises$HouseReader" 36 "hours" (od 2) U ∧
  vk_R "WellPromises$HouseReader" 44 "place" (od 3) U ∧
  vk_R "WellPromises$Reader" 76 " hours place way frog person deed promise each unless vow goes does says hour or and not bound open kept off broken of from till times number " (od 4) U ∧
  vk_R "WellPromises$Reader" 78 " " (od 5) U ∧
  vk_R "WellPromises$HouseReader" 54 "deed" (od 6) U ∧
  vk_R "WellPromises$HouseReader" 59 "way" (od 7) U ∧
  vk_R "WellPromises$HouseReader" 63 "frog" (od 8) U ∧
  vk_R "WellPromises$HouseReader" 67 "person" (od 9) U ∧
  vk_R "WellPromises$HouseReader" 71 "promise" (od 10) U ∧
  vk_R "WellPromises$HouseReader" 161 "each" (od 11) U ∧
  vk_R "WellPromises$HouseReader" 165 "unless" (od 12) U ∧
  vk_R "WellPromises$HouseReader" 169 "vow" (od 13) U ∧
  vk_R "WellPromises$BookReader" 42 "hour" (od 14) U ∧
  vk_R "WellPromises$BookReader" 77 "goes" (od 15) U ∧
  vk_R "WellPromises$BookReader" 79 "does" (od 16) U ∧
  vk_R "WellPromises$BookReader" 81 "says" (od 17) U ∧
  vk_R "WellPromises$SentenceReader" 69 "not" (od 18) U ∧
  vk_R "WellPromises$SentenceReader" 71 "of" (od 19) U ∧
  vk_R "WellPromises$SentenceReader" 48 "bound" (od 20) U ∧
  vk_R "WellPromises$SentenceReader" 50 "open" (od 21) U ∧
  vk_R "WellPromises$SentenceReader" 52 "kept" (od 22) U ∧
  vk_R "WellPromises$SentenceReader" 54 "off" (od 23) U ∧
  vk_R "WellPromises$SentenceReader" 56 "broken" (od 24) U ∧
  vk_R "WellPromises$SentenceReader" 58 "from" (od 25) U ∧
  vk_R "WellPromises$SentenceReader" 60 "till" (od 26) U ∧
  vk_R "WellPromises$SentenceReader" 62 "times" (od 27) U ∧
  vk_R "WellPromises$SentenceReader" 64 "number" (od 28) U ∧
  vk_R "WellPromises$SentenceReader" 47 "and" (od 29) U ∧
  vk_R "WellPromises$SentenceReader" 34 "or" (od 30) U
def gOk (g : gX) : Prop := ∀ U, xX g U → oX (xO g) (xH g) U
section RF
variable {K : kX} {own : String} {cc : ByteArray} {nL fr lo pc q : Nat} {G : gH} {L : List (Nat × lE)} {st : List lE}
theorem r_gets {idx : Nat} {C n d : String} {v : lE} (hK : kOk K own cc nL fr lo) (hd : decode cc pc = .ok (.getstatic idx, 3)) (hz : ∀ U, xX (kg K) U → va_Z C n d (lV (kg K) v) (fun q => (xH (kg K)).size ≤ q) U (xH (kg K))) (hl : Cond.fieldLink own idx C n d ∈ lw_all) (hq : pc + 3 = q) (kk : V K G q L (v :: st)) : V K G pc L st := by
  obtain ⟨g, nL', n0, s0, p, l, e, R, s, m, args, below, meth, c, Q⟩ := K
  obtain ⟨rfl, hx, hb, -, hown, hts, ⟨hKk, hNx, hAx, hXx, -⟩, -⟩ := hK
  subst hq
  intro H locs ls h1 h2 h3
  obtain ⟨cf, kf, fi, f, a, cell, g1, g2, g3, g4, g5, g6, g7, g8⟩ := hz s hXx
  have hlt : a < (xH g).size := (Array.getElem?_eq_some_iff.mp g5).1
  exact W.gets hx hb hown (hts _ hl) g1 g2 g3 g4 (by rw [h1.2.2.1 a hlt]; exact g5) (fun e => by rw [e] at g6; cases g6) g7 rfl hd (kk H locs ls h1 h2 h3)
theorem r_ldcS {idx i : Nat} {tx : String} (hK : kOk K own cc nL fr lo) (hd : decode cc pc = .ok (.ldc idx, 2)) (hz : ∀ U, xX (kg K) U → vk_R own idx tx (xO (kg K) i) U) (h0 : 0 < i) (h64 : i < 64) (hq : pc + 2 = q) (kk : V K G q L (vr i :: st)) : V K G pc L st := by
  obtain ⟨g, nL', n0, s0, p, l, e, R, s, m, args, below, meth, c, Q⟩ := K
  obtain ⟨rfl, hx, hb, -, hown, hts, ⟨hKk, hNx, hAx, hXx, -⟩, -⟩ := hK
  subst hq
  intro H locs ls h1 h2 h3
  have k9 := kk H locs ls h1 h2 h3
  rw [lS_cons] at k9
  have e1 : lV g (vr i) = .ref (xO g i) := by
    show grf g i = _
    rw [grf_ne (by omega), gad_old h64]
  rw [e1] at k9
  exact va_ldcS hx hb hown (hz s hXx) hd k9
set_option maxHeartbeats 4000000 in
theorem r_acopy {idx t j a b : Nat} {sp dp n : Int32} (hK : kOk K own cc nL fr lo) (hd : decode cc pc = .ok (.invokestatic idx, 3)) (hlink : Cond.methodLink own idx arraycopyName ∈ lw_all) (hnat : Cond.native arraycopyName ∈ lw_all) (hstat : Cond.static arraycopyName ∈ lw_all) (hini : Cond.initialized "java/lang/System" ∈ lw_all)
    (hj : ∀ g, (gtys g)[j]? = some (xA g t, gfty t 0)) (hty : ∀ k, gfty t k = gfty t 0) (hpr : refKind (gfty t 0) = false) (hvt : ∀ g G a k, gvt g G (gfty t 0) a k = .int (gI G a k)) (h64 : 64 ≤ t) (hb : gT G b = t) (ha : gT G a = t) (ha64 : 64 ≤ a)
    (h1 : ¬ sp < 0) (h2 : ¬ dp < 0) (h3 : ¬ n < 0) (h4 : sp.toNatClampNeg + n.toNatClampNeg ≤ gL G b) (h5 : dp.toNatClampNeg + n.toNatClampNeg ≤ gL G a) (hft : fitn G t b sp.toNatClampNeg n.toNatClampNeg) (hfr : 1 ≤ fr) (hlo : (st.map lcat).sum + (nativeFrameWords "java/lang/System" "arraycopy" 5 + 11) ≤ lo) (hq : pc + 3 = q)
    (kk : V K (cpI G b sp.toNatClampNeg a dp.toNatClampNeg n.toNatClampNeg) q L st) : V K G pc L (vi n :: vi dp :: vr a :: vi sp :: vr b :: st) := by
  have nn : ∀ z : Int32, ¬ z < 0 → z.toInt = (z.toNatClampNeg : Int) := by
    intro z hz
    have hz0 : (0 : Int) ≤ z.toInt := by
      have := Int32.not_lt.mp hz
      simpa using Int32.le_iff_toInt_le.mp this
    show z.toInt = ((z.toInt.toNat : Nat) : Int)
    omega
  obtain ⟨g, nL', n0, s0, p, l, e, R, s, m, args, below, meth, c, Q⟩ := K
  obtain ⟨rfl, hx, hbc, hml, hown, hts, ⟨hKk, -⟩, -, hf1, hf2, -⟩ := hK
  subst hq
  intro H locs ls r1 r2 r3 T hT X
  have hc0 := r1.arr hb h64
  have hc1 := r1.arr ha h64
  have f0 : gval g G t b = fun k => .int (gI G b k) := funext fun k => by unfold gval; rw [hty, hvt]
  have f1 : gval g G t a = fun k => .int (gI G a k) := funext fun k => by unfold gval; rw [hty, hvt]
  obtain ⟨-, k0, hk0, cm0, hkk0⟩ := (hKk.2 j _ (hj g)).1 (gL G b) (gval g G t b)
  obtain ⟨-, k1, hk1, cm1, hkk1⟩ := (hKk.2 j _ (hj g)).1 (gL G a) (gval g G t a)
  have e0 : lS g (vi n :: vi dp :: vr a :: vi sp :: vr b :: st) = .int n :: .int dp :: .ref (gad g a) :: .int sp :: .ref (gad g b) :: lS g st := by
    rw [lS_cons, lS_cons, lS_cons, lS_cons, lS_cons]
    show _ :: _ :: grf g a :: _ :: grf g b :: _ = _
    rw [grf_ne (r1.pos ha (by omega)), grf_ne (r1.pos hb (by omega))]
    rfl
  rw [e0]
  obtain ⟨vm', X', step⟩ := X.arraycopy hx hown (hts _ hlink) (hts _ hnat) (hts _ hstat) (hts _ hini) (src := gad g b) (dst := gad g a) (cs := arrV (xA g t) (gL G b) (gval g G t b)) (cd := arrV (xA g t) (gL G a) (gval g G t a)) (srcPos := sp) (destPos := dp) (n := n) (by rw [hT]; exact hc0) (by rw [hT]; exact hc1)
    (fun _ h => by cases h) (fun _ h => by cases h) (fun h => by cases h) (fun h => by cases h) hk0 hk1 hkk0 hkk1 (by simp [hpr]) h1 h2 h3
    (by rw [nn sp h1, nn n h3, arrV_size]; omega)
    (by rw [nn dp h2, nn n h3, arrV_size]; omega)
    (fun vm₁ _ i hi => by
      have e : (arrV (xA g t) (gL G b) (gval g G t b)).slots.getD (sp.toNatClampNeg + i) .null = .int (gI G b (sp.toNatClampNeg + i)) := by
        rw [Array.getD_eq_getD_getElem?, arrV_read _ _ (by omega), f0]
        rfl
      refine ⟨?_, ?_⟩
      · rw [e]
        exact fitn_fits hft i hi
      · rw [e]
        exact trivial)
    (g := F0 m pc ls (.int n :: .int dp :: .ref (gad g a) :: .int sp :: .ref (gad g b) :: lS g st)) rfl (by rw [hml]; exact r3.1) (rest := lS g st) rfl (by rw [hbc]; exact hd) (by rw [hf1]; exact hfr) (by show 2 * 0 + _ + _ ≤ _; rw [lS_sum, hf2]; omega)
  have ecp : copied (arrV (xA g t) (gL G b) (gval g G t b)) (arrV (xA g t) (gL G a) (gval g G t a)) sp dp n = arrV (xA g t) (gL G a) (va_cpy (gval g G t b) (gval g G t a) sp.toNatClampNeg dp.toNatClampNeg n.toNatClampNeg) := kit_copied (xA g t) (xA g t) (gval g G t b) (gval g G t a) h4
  rw [ecp] at X' step
  have hlt : gad g a < (T.setVm vm').heap.size := by
    show gad g a < T.heap.size
    rw [hT]
    exact (Array.getElem?_eq_some_iff.mp hc1).1
  have hsc : ((T.setVm vm').setCell (gad g a) (arrV (xA g t) (gL G a) (va_cpy (gval g G t b) (gval g G t a) sp.toNatClampNeg dp.toNatClampNeg n.toNatClampNeg))).heap.size = H.size := by
    rw [size_setCell]
    show T.heap.size = _
    rw [hT]
  have hRn : Rep g (cpI G b sp.toNatClampNeg a dp.toNatClampNeg n.toNatClampNeg) ((T.setVm vm').setCell (gad g a) (arrV (xA g t) (gL G a) (va_cpy (gval g G t b) (gval g G t a) sp.toNatClampNeg dp.toNatClampNeg n.toNatClampNeg))).heap := by
    refine r1.upd (a := a) ha64 (by omega) rfl rfl rfl rfl hsc (fun x hx => ?_) ?_ ⟨_, heapAt_setCell_self _ hlt, rfl, rfl, arrV_size _ _ _⟩ (fun b' hb' t' => gval_of (G := G) (G' := cpI G b sp.toNatClampNeg a dp.toNatClampNeg n.toNatClampNeg) (fun k => cpI_ne (fun h => hb' h.1)) (fun _ => rfl) (fun _ => rfl) t') (fun h => absurd h (by omega)) (fun _ => ?_)
    · rw [heapAt_setCell_ne _ (Ne.symm hx)]
      show T.heap[x]? = _
      rw [hT]
    · rw [heapAt_setCell_self _ hlt, hc1]
      simp [arrV_size]
    · rw [heapAt_setCell_self _ hlt, ha]
      congr 2
      funext k
      have e9 : gval g (cpI G b sp.toNatClampNeg a dp.toNatClampNeg n.toNatClampNeg) t a k = .int (gI (cpI G b sp.toNatClampNeg a dp.toNatClampNeg n.toNatClampNeg) a k) := by unfold gval; rw [hty, hvt]
      rw [e9]
      unfold va_cpy
      rw [f0, f1]
      by_cases hk : dp.toNatClampNeg ≤ k ∧ k < dp.toNatClampNeg + n.toNatClampNeg
      · rw [if_pos hk]
        exact congrArg Value.int (if_pos ⟨rfl, hk⟩).symm
      · rw [if_neg hk]
        exact congrArg Value.int (if_neg (fun h => hk h.2)).symm
  refine Exists.elim (kk _ _ ls hRn (fun x hx => ?_) r3 _ rfl X') (fun t2 h => ⟨t2, step t2 h.1, h.2⟩)
  rcases List.mem_append.mp hx with h | h
  · exact r2 x h
  · obtain ⟨z, -, rfl⟩ := List.mem_map.mp h
    show (xH g).size ≤ gad g a
    rw [gad_new ha64]
    exact Nat.le_add_right _ _
end RF
