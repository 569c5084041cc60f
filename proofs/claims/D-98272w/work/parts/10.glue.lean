/-! ===== glue of the printed walks ===== -/
set_option maxRecDepth 100000
noncomputable def gd {α : Type} (p : Prop) (k : Option α) : Option α := @ite (Option α) p (Classical.propDecidable p) k none
theorem gd_some {α : Type} {p : Prop} {k : Option α} {x : α} (h : gd p k = some x) : p ∧ k = some x := by
  unfold gd at h
  split at h
  · rename_i hp
    exact ⟨hp, h⟩
  · cases h
theorem gd_pos {α : Type} {p : Prop} {k : Option α} (h : p) : gd p k = k := by
  unfold gd
  exact if_pos h
def bd {α β : Type} (o : Option (α × gH)) (k : α → gH → Option β) : Option β := o.bind fun z => k z.1 z.2
theorem bd_some {α β : Type} {o : Option (α × gH)} {k : α → gH → Option β} {y : β} (h : bd o k = some y) : ∃ x G, o = some (x, G) ∧ k x G = some y := by
  cases o with
  | none => cases h
  | some z => exact ⟨z.1, z.2, rfl, h⟩
theorem bn_some {α β : Type} {o : Option α} {k : α → Option β} {y : β} (h : o.bind k = some y) : ∃ x, o = some x ∧ k x = some y := by
  cases o with
  | none => cases h
  | some z => exact ⟨z, rfl, h⟩
theorem bd_eq {α β : Type} {o : Option (α × gH)} {k : α → gH → Option β} {x : α} {G : gH} (h : o = some (x, G)) : bd o k = k x G := by
  subst h
  rfl
theorem bn_eq {α β : Type} {o : Option α} {k : α → Option β} {x : α} (h : o = some x) : o.bind k = k x := by
  subst h
  rfl
def hb {α : Type} (x : gH) (k : gH → Option α) : Option α := k x
theorem hb_some {α : Type} {x : gH} {k : gH → Option α} {y : α} (h : hb x k = some y) : ∃ G, G = x ∧ k G = some y := ⟨x, rfl, h⟩
theorem r_heap {K : kX} {G G' : gH} {pc : Nat} {L : List (Nat × lE)} {st : List lE} (e : G' = G) (k : V K G' pc L st) : V K G pc L st := e ▸ k
theorem lsub {L L' : List (Nat × lE)} (ks : List Nat) (h : ks.filterMap (fun k => L[k]?) = L') : ∀ q ∈ L', q ∈ L := by
  subst h
  intro q hq
  obtain ⟨i, -, hi⟩ := List.mem_filterMap.mp hq
  exact List.mem_of_getElem? hi
/-- an index is in its array -/
abbrev inb (i : Int32) (n : Nat) : Prop := ¬ (i < 0 ∨ n ≤ i.toNatClampNeg)
/-- fuel of loops: more than any loop takes -/
theorem fu_ex : ∃ x : Nat, x = 100000 := ⟨_, rfl⟩
noncomputable def FU : Nat := Classical.choose fu_ex
theorem FU_eq : FU = 100000 := Classical.choose_spec fu_ex
theorem fitv_z {x : Int32} (h : x = 0 ∨ x = 1) : fitv .boolean (vi x) := by
  intro g
  rcases h with rfl | rfl <;> exact ⟨rfl, rfl⟩
theorem fitv_b {x : Int32} (h : x.toInt8.toInt32 = x) : fitv .byte (vi x) := by
  intro g
  refine ⟨congrArg Value.int h, ?_⟩
  show (decide (-128 ≤ x) && decide (x ≤ 127)) = true
  have e : x.toInt = x.toInt8.toInt := by
    have e1 := congrArg Int32.toInt h
    rw [Int8.toInt_toInt32] at e1
    exact e1.symm
  have l1 := Int8.le_toInt x.toInt8
  have l2 := Int8.toInt_lt x.toInt8
  have a1 : (-128 : Int32) ≤ x := by
    rw [Int32.le_iff_toInt_le, e]
    exact l1
  have a2 : x ≤ (127 : Int32) := by
    rw [Int32.le_iff_toInt_le, e]
    show x.toInt8.toInt ≤ 127
    omega
  simp [a1, a2]
section RG
variable {K : kX} {own : String} {cc : ByteArray} {nL fr lo pc q n : Nat} {G : gH} {L : List (Nat × lE)} {st : List lE}
theorem r_ialoadn {a : Nat} {i : Int32} (hK : kOk K own cc nL fr lo) (hd : decode cc pc = .ok (.iaload, 1)) (ht : gT G a = 64) (hl : gL G a = n) (hi : inb i n) (hq : pc + 1 = q) (kk : V K G q L (vi (gI G a i.toNatClampNeg) :: st)) : V K G pc L (vi i :: vr a :: st) := r_iaload hK hd ht (by rw [hl]; exact hi) hq kk
theorem r_baloadn {a : Nat} {i : Int32} (hK : kOk K own cc nL fr lo) (hd : decode cc pc = .ok (.baload, 1)) (ht : gT G a = 65) (hl : gL G a = n) (hi : inb i n) (hq : pc + 1 = q) (kk : V K G q L (vi (gI G a i.toNatClampNeg) :: st)) : V K G pc L (vi i :: vr a :: st) := r_baload hK hd ht (by rw [hl]; exact hi) hq kk
theorem r_zaloadn {a : Nat} {i : Int32} (hK : kOk K own cc nL fr lo) (hd : decode cc pc = .ok (.baload, 1)) (ht : gT G a = 66) (hl : gL G a = n) (hi : inb i n) (hq : pc + 1 = q) (kk : V K G q L (vi (gI G a i.toNatClampNeg) :: st)) : V K G pc L (vi i :: vr a :: st) := r_zaload hK hd ht (by rw [hl]; exact hi) hq kk
theorem r_laloadn {a : Nat} {i : Int32} (hK : kOk K own cc nL fr lo) (hd : decode cc pc = .ok (.laload, 1)) (ht : gT G a = 67) (hl : gL G a = n) (hi : inb i n) (hq : pc + 1 = q) (kk : V K G q L (vj (gJ G a i.toNatClampNeg) :: st)) : V K G pc L (vi i :: vr a :: st) := r_laload hK hd ht (by rw [hl]; exact hi) hq kk
theorem r_iastoren {a : Nat} {i x : Int32} (hK : kOk K own cc nL fr lo) (hd : decode cc pc = .ok (.iastore, 1)) (ht : gT G a = 64) (hl : gL G a = n) (hi : inb i n) (ha : 64 ≤ a) (hq : pc + 1 = q) (kk : V K (sI G a i.toNatClampNeg x) q L st) : V K G pc L (vi x :: vi i :: vr a :: st) := r_iastore hK hd ht (by rw [hl]; exact hi) ha hq kk
theorem r_bastoren {a : Nat} {i x : Int32} (hK : kOk K own cc nL fr lo) (hd : decode cc pc = .ok (.bastore, 1)) (ht : gT G a = 65) (hl : gL G a = n) (hi : inb i n) (ha : 64 ≤ a) (hq : pc + 1 = q) (kk : V K (sI G a i.toNatClampNeg x.toInt8.toInt32) q L st) : V K G pc L (vi x :: vi i :: vr a :: st) := r_bastore hK hd ht (by rw [hl]; exact hi) ha hq kk
theorem r_zastoren {a : Nat} {i x w : Int32} (hK : kOk K own cc nL fr lo) (hd : decode cc pc = .ok (.bastore, 1)) (ht : gT G a = 66) (hl : gL G a = n) (hi : inb i n) (ha : 64 ≤ a) (hw : x &&& 1 = w) (hq : pc + 1 = q) (kk : V K (sI G a i.toNatClampNeg w) q L st) : V K G pc L (vi x :: vi i :: vr a :: st) := by
  subst hw
  exact r_zastore hK hd ht (by rw [hl]; exact hi) ha hq kk
theorem r_lastoren {a : Nat} {i : Int32} {x : Int64} (hK : kOk K own cc nL fr lo) (hd : decode cc pc = .ok (.lastore, 1)) (ht : gT G a = 67) (hl : gL G a = n) (hi : inb i n) (ha : 64 ≤ a) (hq : pc + 1 = q) (kk : V K (sJ G a i.toNatClampNeg x) q L st) : V K G pc L (vj x :: vi i :: vr a :: st) := r_lastore hK hd ht (by rw [hl]; exact hi) ha hq kk
end RG
