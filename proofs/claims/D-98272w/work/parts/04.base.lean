/-! ===== the abstract heap: int fields and elements, longs, references (0: null), lengths, tags, the next address, the slots in use ===== -/
set_option maxRecDepth 100000
abbrev gH : Type := (Nat → Nat → Int32) × (Nat → Nat → Int64) × (Nat → Nat → Nat) × (Nat → Nat) × (Nat → Nat) × Nat × Nat
def gI (G : gH) : Nat → Nat → Int32 := G.1
def gJ (G : gH) : Nat → Nat → Int64 := G.2.1
def gR (G : gH) : Nat → Nat → Nat := G.2.2.1
def gL (G : gH) : Nat → Nat := G.2.2.2.1
def gT (G : gH) : Nat → Nat := G.2.2.2.2.1
def gN (G : gH) : Nat := G.2.2.2.2.2.1
def gS (G : gH) : Nat := G.2.2.2.2.2.2
def sI (G : gH) (a k : Nat) (v : Int32) : gH := ((fun x y => if x = a ∧ y = k then v else G.1 x y), G.2)
def sJ (G : gH) (a k : Nat) (v : Int64) : gH := (G.1, (fun x y => if x = a ∧ y = k then v else G.2.1 x y), G.2.2)
def sR (G : gH) (a k : Nat) (v : Nat) : gH := (G.1, G.2.1, (fun x y => if x = a ∧ y = k then v else G.2.2.1 x y), G.2.2.2)
/-- a new cell of the tag t with n slots, all 0 -/
def nW (G : gH) (t n : Nat) : gH := ((fun x y => if x = gN G then 0 else gI G x y), (fun x y => if x = gN G then 0 else gJ G x y), (fun x y => if x = gN G then 0 else gR G x y), (fun x => if x = gN G then n else gL G x), (fun x => if x = gN G then t else gT G x), gN G + 1, gS G + n)
/-! what is the same all through a run: the classes' numbers, their fields' slots, the array classes' numbers, where old cells lie, the heap at the start, what else is known -/
abbrev gX : Type := (Nat → ClassId) × (Nat → Nat → Nat) × (Nat → ClassId) × (Nat → Nat) × Heap × (State → Prop)
def xC (g : gX) : Nat → ClassId := g.1
def xI (g : gX) : Nat → Nat → Nat := g.2.1
def xA (g : gX) : Nat → ClassId := g.2.2.1
def xO (g : gX) : Nat → Nat := g.2.2.2.1
def xH (g : gX) : Heap := g.2.2.2.2.1
def xX (g : gX) : State → Prop := g.2.2.2.2.2
def gad (g : gX) (a : Nat) : Nat := if a < 64 then xO g a else (xH g).size + (a - 64)
def grf (g : gX) (a : Nat) : Value := if a = 0 then .null else .ref (gad g a)
theorem grf_ne {g : gX} {a : Nat} (h : a ≠ 0) : grf g a = .ref (gad g a) := if_neg h
theorem grf_0 {g : gX} : grf g 0 = .null := if_pos rfl
theorem grf_cat {g : gX} {a : Nat} : (grf g a).category = 1 := by
  unfold grf
  split <;> rfl
/-! the classes by their tags (of a Fault its own two fields alone, of a String value and coder) -/
def TFa : u_T := fun k => match k with
  | 0 => ("WellPromises$Fault", "kind", "I", true)
  | 1 => ("WellPromises$Fault", "place", "I", true)
  | _ => ("java/lang/Throwable", "backtrace", "Ljava/lang/Object;", false)
def tyFa : Nat → FieldType := fun k => match k with
  | 0 => .int
  | 1 => .int
  | _ => .object "java/lang/Object"
theorem tyFa_ok : ∀ k, k < 3 → parseFieldDescriptor (TFa k).2.2.1 = some (tyFa k) := by decide +kernel
theorem nmFa : ∀ a, a < 3 → ∀ b, b < 3 → a ≠ b → (TFa a).2.1 ≠ (TFa b).2.1 := by decide +kernel
def TNs : u_T := fun _ => ("java/lang/Throwable", "backtrace", "Ljava/lang/Object;", false)
def tyNs : Nat → FieldType := fun _ => .object "java/lang/Object"
theorem tyNs_ok : ∀ k, k < 1 → parseFieldDescriptor (TNs k).2.2.1 = some (tyNs k) := by decide +kernel
theorem nmNs : ∀ a, a < 1 → ∀ b, b < 1 → a ≠ b → (TNs a).2.1 ≠ (TNs b).2.1 := fun a ha b hb h => absurd (show a = b by omega) h
theorem u_ws_le {C : String} {T : u_T} {N M : Nat} (h : N ≤ M) : ∀ w ∈ u_ws C T N, w ∈ u_ws C T M := by
  intro w hw
  obtain ⟨k, hk, rfl⟩ := List.mem_map.mp hw
  exact List.mem_map.mpr ⟨k, List.mem_range.mpr (Nat.lt_of_lt_of_le (List.mem_range.mp hk) h), rfl⟩
theorem in_Ns : ∀ w ∈ u_ws RJ16 TNs 1, w ∈ lw_all := by
  intro w hw
  obtain ⟨k, hk, rfl⟩ := List.mem_map.mp hw
  have e : u_lay RJ16 TNs k = u_lay RJ16 TJ16 4 := rfl
  rw [e]
  exact in_J16 _ (List.mem_map.mpr ⟨4, List.mem_range.mpr (by decide), rfl⟩)
theorem in_Fa : ∀ w ∈ u_ws RX8 TFa 3, w ∈ lw_all := by
  intro w hw
  obtain ⟨k, hk, rfl⟩ := List.mem_map.mp hw
  have hk2 := List.mem_range.mp hk
  rcases (show k = 0 ∨ k = 1 ∨ k = 2 by omega) with rfl | rfl | rfl
  · exact in_X8 (u_lay RX8 TX8 6) (List.mem_map.mpr ⟨6, List.mem_range.mpr (by decide), rfl⟩)
  · exact in_X8 (u_lay RX8 TX8 7) (List.mem_map.mpr ⟨7, List.mem_range.mpr (by decide), rfl⟩)
  · exact in_X8 (u_lay RX8 TX8 4) (List.mem_map.mpr ⟨4, List.mem_range.mpr (by decide), rfl⟩)
theorem in_St : ∀ w ∈ u_ws RJ8 TJ8 2, w ∈ lw_all := fun w hw => in_J8 w (u_ws_le (by decide) w hw)
theorem tySt_ok : ∀ k, k < 2 → parseFieldDescriptor (TJ8 k).2.2.1 = some (tyJ8 k) := fun k hk => tyJ8_ok k (by omega)
theorem nmSt : ∀ a, a < 2 → ∀ b, b < 2 → a ≠ b → (TJ8 a).2.1 ≠ (TJ8 b).2.1 := fun a ha b hb => nmJ8 a (by omega) b (by omega)
def gcl : List vw_C := [(RX1, TX1, 19), (RX1, TX1, 19), (RX2, TX2, 12), (RX3, TX3, 15), (RX4, TX4, 3), (RX5, TX5, 48), (RX7, TX7, 11), (RX17, TX17, 11), (RX19, TX19, 12), (RX8, TFa, 3), (RX9, TX9, 1), (RX10, TX10, 2), (RX11, TX11, 9), (RX14, TX14, 2), (RX15, TX15, 2), (RX16, TX16, 2), (RX18, TX18, 1), (RX21, TX21, 1), (RX22, TX22, 1), (RX23, TX23, 1), (RX24, TX24, 3), (RX25, TX25, 3), (RJ2, TJ2, 3), (RJ7, TJ7, 4), (RJ8, TJ8, 2), (RJ16, TNs, 1)]
def gfty : Nat → Nat → FieldType := fun t => match t with
  | 0 => tyX1
  | 1 => tyX1
  | 2 => tyX2
  | 3 => tyX3
  | 4 => tyX4
  | 5 => tyX5
  | 6 => tyX7
  | 7 => tyX17
  | 8 => tyX19
  | 9 => tyFa
  | 10 => tyX9
  | 11 => tyX10
  | 12 => tyX11
  | 13 => tyX14
  | 14 => tyX15
  | 15 => tyX16
  | 16 => tyX18
  | 17 => tyX21
  | 18 => tyX22
  | 19 => tyX23
  | 20 => tyX24
  | 21 => tyX25
  | 22 => tyJ2
  | 23 => tyJ7
  | 24 => tyJ8
  | 25 => tyNs
  | 64 => fun _ => .int
  | 65 => fun _ => .byte
  | 66 => fun _ => .boolean
  | 67 => fun _ => .long
  | 70 => fun _ => .object "java/lang/Object"
  | 71 => fun _ => .object "WellPromises$Stay"
  | 72 => fun _ => .object "WellPromises$Image"
  | 73 => fun _ => .array .boolean
  | _ => fun _ => .int
def gnf (t : Nat) : Nat := match gcl[t]? with
  | some q => q.2.2
  | none => 0
/-- the array classes -/
def gtys (g : gX) : List (ClassId × FieldType) := [(xA g 64, .int), (xA g 65, .byte), (xA g 66, .boolean), (xA g 67, .long), (xA g 70, .object "java/lang/Object"), (xA g 71, .object "WellPromises$Stay"), (xA g 72, .object "WellPromises$Image"), (xA g 73, .array .boolean)]
/-- a value of the kind ty at place k of the cell a -/
def gvt (g : gX) (G : gH) (ty : FieldType) (a k : Nat) : Value := match ty with
  | .long => .long (gJ G a k)
  | .object _ => grf g (gR G a k)
  | .array _ => grf g (gR G a k)
  | _ => .int (gI G a k)
def gval (g : gX) (G : gH) (t a k : Nat) : Value := gvt g G (gfty t k) a k
/-- the slots of the cells from b on -/
def ssum (b : Nat) (H : Heap) : Nat := ((H.toList.drop b).map (·.slots.size)).sum
theorem lim_ex : ∃ x : Nat × Nat, x = (601088, 7293034) := ⟨_, rfl⟩
noncomputable def LIMC : Nat := (Classical.choose lim_ex).1
noncomputable def LIMS : Nat := (Classical.choose lim_ex).2
theorem LIMC_eq : LIMC = 601088 := by
  unfold LIMC
  rw [Classical.choose_spec lim_ex]
theorem LIMS_eq : LIMS = 7293034 := by
  unfold LIMS
  rw [Classical.choose_spec lim_ex]
/-- nobody holds the cell's monitor; it has n slots -/
def mfree (H : Heap) (q n : Nat) : Prop := ∃ cell : Cell, H[q]? = some cell ∧ cell.monitor.owner = none ∧ cell.monitor.count = 0 ∧ cell.slots.size = n
theorem mfree.kept {H H' : Heap} {q n : Nat} (h : mfree H q n) (e : H'[q]? = H[q]?) : mfree H' q n := by
  obtain ⟨c, h1, h2⟩ := h
  exact ⟨c, by rw [e]; exact h1, h2⟩
/-- the machine's heap H is the abstract heap G -/
def Rep (g : gX) (G : gH) (H : Heap) : Prop :=
  64 ≤ gN G ∧ H.size = (xH g).size + (gN G - 64) ∧ (∀ q, q < (xH g).size → H[q]? = (xH g)[q]?) ∧ ssum (xH g).size H = gS G ∧
  (∀ a, gT G a ≠ 0 → 0 < a ∧ a < gN G) ∧ (∀ a, a < 64 → gT G a ≠ 0 → xO g a < (xH g).size) ∧
  (∀ a t, gT G a = t → 0 < t → t < 64 → t_OB (gad g a) (xC g t) (gnf t) (xI g t) H (gval g G t a)) ∧
  (∀ a t, gT G a = t → 64 ≤ t → H[gad g a]? = some (arrV (xA g t) (gL G a) (gval g G t a))) ∧ gN G ≤ LIMC ∧ gS G ≤ LIMS ∧ (∀ a, 64 ≤ a → gT G a ≠ 0 → mfree H (gad g a) (gL G a))
theorem ssum_same {b : Nat} {H H' : Heap} (hz : H'.size = H.size) (h : ∀ q : Nat, (H'[q]?).map (·.slots.size) = (H[q]?).map (·.slots.size)) : ssum b H' = ssum b H := by
  unfold ssum
  congr 1
  rw [List.map_drop, List.map_drop]
  congr 1
  apply List.ext_getElem?
  intro i
  rw [List.getElem?_map, List.getElem?_map, Array.getElem?_toList, Array.getElem?_toList]
  exact h i
theorem ssum_push {b : Nat} {H : Heap} (c : Cell) (hb : b ≤ H.size) : ssum b (H.push c) = ssum b H + c.slots.size := by
  unfold ssum
  rw [Array.toList_push, List.drop_append_of_le_length (by simpa using hb)]
  simp
theorem ssum_split {b n : Nat} {H0 H : Heap} (hb : b ≤ n) (hn : H0.size = n) (hle : n ≤ H.size) (h : ∀ (a : Nat) (c : Cell), H0[a]? = some c → ∃ c', H[a]? = some c' ∧ c'.slots.size = c.slots.size) : ssum b H = ssum b H0 + ssum n H := by
  subst hn
  have h1 : (H.toList.map (·.slots.size)).take H0.size = H0.toList.map (·.slots.size) := by
    apply List.ext_getElem?
    intro i
    rw [List.getElem?_take]
    split
    · rename_i hi
      rw [List.getElem?_map, List.getElem?_map, Array.getElem?_toList, Array.getElem?_toList]
      obtain ⟨c', e1, e2⟩ := h i H0[i] (Array.getElem?_eq_getElem hi)
      rw [e1, Array.getElem?_eq_getElem hi]
      simp [e2]
    · rename_i hi
      symm
      simp
      omega
  have h2 : H.toList.map (·.slots.size) = H0.toList.map (·.slots.size) ++ (H.toList.map (·.slots.size)).drop H0.size := by
    rw [← h1]
    exact (List.take_append_drop _ _).symm
  unfold ssum
  rw [List.map_drop, List.map_drop, List.map_drop]
  rw [h2, List.drop_append_of_le_length (by simpa using hb), List.sum_append]
  congr 1
  rw [← h2]
theorem gad_new {g : gX} {a : Nat} (h : 64 ≤ a) : gad g a = (xH g).size + (a - 64) := if_neg (by omega)
theorem gad_old {g : gX} {a : Nat} (h : a < 64) : gad g a = xO g a := if_pos h
theorem gad_ne {g : gX} {G : gH} {H : Heap} (hR : Rep g G H) {a b : Nat} (ha : 64 ≤ a) (hb : gT G b ≠ 0) (hne : b ≠ a) : gad g b ≠ gad g a := by
  obtain ⟨-, -, -, -, -, h6, -⟩ := hR
  rw [gad_new ha]
  by_cases h : b < 64
  · rw [gad_old h]
    have := h6 b h hb
    omega
  · rw [gad_new (by omega)]
    omega
theorem gvt_of {g : gX} {G G' : gH} {a : Nat} (h1 : ∀ k, gI G' a k = gI G a k) (h2 : ∀ k, gJ G' a k = gJ G a k) (h3 : ∀ k, gR G' a k = gR G a k) (ty : FieldType) (k : Nat) : gvt g G' ty a k = gvt g G ty a k := by
  unfold gvt
  cases ty <;> simp [h1, h2, h3]
theorem gval_of {g : gX} {G G' : gH} {a : Nat} (h1 : ∀ k, gI G' a k = gI G a k) (h2 : ∀ k, gJ G' a k = gJ G a k) (h3 : ∀ k, gR G' a k = gR G a k) (t : Nat) : gval g G' t a = gval g G t a := funext fun k => gvt_of h1 h2 h3 (gfty t k) k
/-- one cell is written -/
theorem Rep.upd {g : gX} {G G' : gH} {H H' : Heap} {a : Nat} (hR : Rep g G H) (ha : 64 ≤ a) (h0 : gT G a ≠ 0) (hN : gN G' = gN G) (hS : gS G' = gS G) (hT : gT G' = gT G) (hL : gL G' = gL G) (hz : H'.size = H.size) (ho : ∀ q, q ≠ gad g a → H'[q]? = H[q]?)
    (hsl : (H'[gad g a]?).map (·.slots.size) = (H[gad g a]?).map (·.slots.size)) (hmo : mfree H' (gad g a) (gL G a)) (hv : ∀ b, b ≠ a → ∀ t, gval g G' t b = gval g G t b)
    (hob : gT G a < 64 → t_OB (gad g a) (xC g (gT G a)) (gnf (gT G a)) (xI g (gT G a)) H' (gval g G' (gT G a) a)) (har : 64 ≤ gT G a → H'[gad g a]? = some (arrV (xA g (gT G a)) (gL G a) (gval g G' (gT G a) a))) : Rep g G' H' := by
  have hR0 := hR
  obtain ⟨r1, r2, r3, r4, r5, r6, r7, r8, r9, r10, r11⟩ := hR
  refine ⟨by rw [hN]; exact r1, by rw [hz, hN]; exact r2, fun q hq => ?_, ?_, fun b hb => by rw [hN]; exact r5 b (by rw [← hT]; exact hb), fun b hb h => r6 b hb (by rw [← hT]; exact h), fun b t hb h1 h2 => ?_, fun b t hb h1 => ?_, by rw [hN]; exact r9, by rw [hS]; exact r10, fun b hb h => ?_⟩
  · rw [ho q (by rw [gad_new ha]; omega)]
    exact r3 q hq
  · rw [hS, ← r4]
    refine ssum_same hz fun q => ?_
    by_cases hq : q = gad g a
    · rw [hq]; exact hsl
    · rw [ho q hq]
  · rw [hT] at hb
    by_cases hba : b = a
    · subst hba
      subst hb
      exact hob h2
    · rw [hv b hba t]
      exact (r7 b t hb h1 h2).kept (ho _ (gad_ne hR0 ha (by omega) hba))
  · rw [hT] at hb
    by_cases hba : b = a
    · subst hba
      subst hb
      rw [hL]
      exact har h1
    · rw [hv b hba t, hL, ho _ (gad_ne hR0 ha (by omega) hba)]
      exact r8 b t hb h1
  · rw [hT] at h
    rw [hL]
    by_cases hba : b = a
    · rw [hba]
      exact hmo
    · exact (r11 b hb h).kept (ho _ (gad_ne hR0 ha h hba))
/-- a cell is made -/
theorem Rep.new {g : gX} {G : gH} {H H' : Heap} {t n : Nat} (hR : Rep g G H) (ht : 0 < t) (hLc : gN G < LIMC) (hLs : gS G + n ≤ LIMS) (hz : H'.size = H.size + 1) (ho : ∀ q, q < H.size → H'[q]? = H[q]?) (hsl : ssum (xH g).size H' = ssum (xH g).size H + n) (hmo : mfree H' H.size n)
    (hob : t < 64 → t_OB H.size (xC g t) (gnf t) (xI g t) H' (gval g (nW G t n) t (gN G))) (har : 64 ≤ t → H'[H.size]? = some (arrV (xA g t) n (gval g (nW G t n) t (gN G)))) : Rep g (nW G t n) H' ∧ grf g (gN G) = .ref H.size := by
  obtain ⟨r1, r2, r3, r4, r5, r6, r7, r8, r9, r10, r11⟩ := hR
  have hA : gad g (gN G) = H.size := by rw [gad_new r1, r2]
  have hI : ∀ b, b ≠ gN G → ∀ k, gI (nW G t n) b k = gI G b k := fun b hb k => if_neg hb
  have hJ : ∀ b, b ≠ gN G → ∀ k, gJ (nW G t n) b k = gJ G b k := fun b hb k => if_neg hb
  have hRr : ∀ b, b ≠ gN G → ∀ k, gR (nW G t n) b k = gR G b k := fun b hb k => if_neg hb
  have hTt : ∀ b, b ≠ gN G → gT (nW G t n) b = gT G b := fun b hb => if_neg hb
  have hT0 : gT (nW G t n) (gN G) = t := if_pos rfl
  have hL0 : gL (nW G t n) (gN G) = n := if_pos rfl
  have hLl : ∀ b, b ≠ gN G → gL (nW G t n) b = gL G b := fun b hb => if_neg hb
  have hNn : gN (nW G t n) = gN G + 1 := rfl
  have hSs : gS (nW G t n) = gS G + n := rfl
  refine ⟨⟨by omega, by omega, fun q hq => by rw [ho q (by omega)]; exact r3 q hq, by rw [hsl, r4, hSs], fun b hb => ?_, fun b hb h => ?_, fun b t' hb h1 h2 => ?_, fun b t' hb h1 => ?_, by omega, by omega, fun b hb h => ?_⟩, by rw [grf_ne (by omega), hA]⟩
  · by_cases hbn : b = gN G
    · omega
    · rw [hTt b hbn] at hb
      have := r5 b hb
      omega
  · have hbn : b ≠ gN G := by omega
    rw [hTt b hbn] at h
    exact r6 b hb h
  · by_cases hbn : b = gN G
    · subst hbn
      rw [hT0] at hb
      subst hb
      rw [hA]
      exact hob h2
    · rw [hTt b hbn] at hb
      rw [gval_of (hI b hbn) (hJ b hbn) (hRr b hbn)]
      have hlt := r5 b (by omega)
      refine (r7 b t' hb h1 h2).kept (ho _ ?_)
      obtain ⟨cell, q1, -⟩ := r7 b t' hb h1 h2
      exact (Array.getElem?_eq_some_iff.mp q1).1
  · by_cases hbn : b = gN G
    · subst hbn
      rw [hT0] at hb
      subst hb
      rw [hA, hL0]
      exact har h1
    · rw [hTt b hbn] at hb
      rw [gval_of (hI b hbn) (hJ b hbn) (hRr b hbn), hLl b hbn]
      have q1 := r8 b t' hb h1
      rw [ho _ (Array.getElem?_eq_some_iff.mp q1).1]
      exact q1
  · by_cases hbn : b = gN G
    · rw [hbn, hA, hL0]
      exact hmo
    · rw [hTt b hbn] at h
      rw [hLl b hbn]
      obtain ⟨cell, q1, q2⟩ := r11 b hb h
      exact ⟨cell, by rw [ho _ (Array.getElem?_eq_some_iff.mp q1).1]; exact q1, q2⟩
