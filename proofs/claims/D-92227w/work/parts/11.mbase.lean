/-! the reference's world: one object, its int and boolean arrays; a state is a function: field, place -/
abbrev MS : Type := Nat → Nat → Int32
def up2 (σ : MS) (k i : Nat) (v : Int32) : MS := fun a => if a = k then upd (σ k) i v else σ a
theorem up2_s {σ : MS} {k i : Nat} {v : Int32} : up2 σ k i v k = upd (σ k) i v := if_pos rfl
theorem up2_n {σ : MS} {k i a : Nat} {v : Int32} (h : a ≠ k) : up2 σ k i v a = σ a := if_neg h
abbrev MG : Type := va_G × List vw_C × Nat × (Nat → Nat) × ClassId × ClassId
abbrev mad (g : MG) : Nat → Nat := g.2.2.2.1
abbrev mcI (g : MG) : ClassId := g.2.2.2.2.1
abbrev mcZ (g : MG) : ClassId := g.2.2.2.2.2
abbrev mD (g : MG) : va_G := g.1
abbrev mcl (g : MG) : List vw_C := g.2.1
abbrev mci (g : MG) : Nat := g.2.2.1
abbrev mty (g : MG) : List (ClassId × FieldType) := [(mcI g, .int), (mcZ g, .boolean)]
def mIsA (k : Nat) : Bool := !([0, 1, 12, 18, 27, 30, 33, 43, 44, 45, 46, 52, 55].contains k)
def mIsZ (k : Nat) : Bool := [9, 10, 15, 17, 23, 47, 48, 49].contains k
def mLen (k : Nat) : Nat := ([0, 0, 16, 16, 16, 16, 16, 16, 16, 16, 800, 256, 0, 60, 60, 60, 16, 16, 0, 16, 16, 16, 16, 16, 16, 16, 16, 0, 6, 6, 0, 40, 40, 0, 16, 16, 16, 16, 16, 16, 1360, 1360, 80, 0, 0, 0, 0, 8, 8, 8, 80, 16, 0, 16, 16, 0, 8, 8, 4, 4, 200, 50] : List Nat).getD k 0
def mai : List Nat := [2, 3, 4, 5, 6, 7, 8, 9, 10, 11, 13, 14, 15, 16, 17, 19, 20, 21, 22, 23, 24, 25, 26, 28, 29, 31, 32, 34, 35, 36, 37, 38, 39, 40, 41, 42, 47, 48, 49, 50, 51, 53, 54, 56, 57, 58, 59, 60, 61]
def mfs (g : MG) (σ : MS) : List Value := (List.range 62).map (fun k => if mIsA k = true then .ref (mad g k) else .int (σ k 0))
def mar (g : MG) (σ : MS) (k : Nat) : va_E := .inl (if mIsZ k = true then mcZ g else mcI g, mLen k, .inl (σ k))
def mws (g : MG) (σ : MS) : va_W := (mad g 62, .inr (mci g, mfs g σ)) :: mai.map (fun k => (mad g k, mar g σ k))
def MWd (g : MG) (σ : MS) (H : Heap) : Prop := va_P (mD g) (mcl g) (mws g σ) H
def MA (g : MG) : Nat → Prop := fun q => ∃ k, k ∈ 62 :: mai ∧ q = mad g k
def MOK (g : MG) : Prop := (mcl g)[mci g]? = some (RX3, TX3, 62) ∧ ∀ i, i ∈ 62 :: mai → ∀ j, j ∈ 62 :: mai → mad g i = mad g j → i = j
theorem mws_at {g : MG} {σ : MS} {i : Nat} {q : Nat × va_E} (h : (mws g σ)[i]? = some q) : ∃ k, (62 :: mai)[i]? = some k ∧ q.1 = mad g k := by
  cases i with
  | zero =>
    rw [show (mws g σ)[0]? = some (mad g 62, .inr (mci g, mfs g σ)) from rfl] at h
    cases h
    exact ⟨62, rfl, rfl⟩
  | succ i =>
    rw [mws, List.getElem?_cons_succ, List.getElem?_map] at h
    cases hi : mai[i]? with
    | none => rw [hi] at h; cases h
    | some k =>
      rw [hi] at h
      cases h
      exact ⟨k, by rw [List.getElem?_cons_succ]; exact hi, rfl⟩
theorem m_D {g : MG} {σ : MS} (hO : MOK g) : va_D (MA g) (mws g σ) := by
  refine ⟨fun i j x y hi hj hxy => ?_, fun k q hk => ?_⟩
  · obtain ⟨a, h1, h2⟩ := mws_at hi
    obtain ⟨b, h3, h4⟩ := mws_at hj
    have hab := hO.2 a (List.mem_of_getElem? h1) b (List.mem_of_getElem? h3) (by rw [← h2, ← h4, hxy])
    subst hab
    exact va_nd_inj (62 :: mai) (by decide) i j a h1 h3
  · obtain ⟨a, h1, h2⟩ := mws_at hk
    exact ⟨a, List.mem_of_getElem? h1, h2⟩
theorem mws_0 {g : MG} {σ : MS} : (mws g σ)[0]? = some (mad g 62, .inr (mci g, mfs g σ)) := rfl
theorem mws_k {g : MG} {σ : MS} {k q : Nat} (h : mai[q]? = some k) : (mws g σ)[q + 1]? = some (mad g k, mar g σ k) := by
  rw [mws, List.getElem?_cons_succ, List.getElem?_map, h]
  rfl
theorem mai_A : ∀ k, k ∈ mai → mIsA k = true := by decide +kernel
theorem mfs_up {g : MG} {σ : MS} {k i : Nat} {v : Int32} (h : mIsA k = true) : mfs g (up2 σ k i v) = mfs g σ := by
  unfold mfs
  refine List.map_congr_left fun j _ => ?_
  by_cases hj : mIsA j = true
  · rw [if_pos hj, if_pos hj]
  · rw [if_neg hj, if_neg hj, up2_n (fun e => hj (by rw [e]; exact h))]
theorem mws_up {g : MG} {σ : MS} {k q i : Nat} {v : Int32} (h : mai[q]? = some k) : (mws g σ).set (q + 1) (mad g k, .inl (if mIsZ k = true then mcZ g else mcI g, mLen k, .inl (upd (σ k) i v))) = mws g (up2 σ k i v) := by
  have hA := mai_A k (List.mem_of_getElem? h)
  rw [mws, mws, List.set_cons_succ, mfs_up hA]
  congr 1
  refine List.ext_getElem? fun j => ?_
  rw [List.getElem?_map, List.getElem?_set]
  by_cases hj : q = j
  · subst hj
    have hl : q < mai.length := (List.getElem?_eq_some_iff.mp h).1
    rw [if_pos rfl, List.length_map, if_pos hl, h]
    show _ = some (mad g k, mar g (up2 σ k i v) k)
    rw [mar, up2_s]
  · rw [if_neg hj, List.getElem?_map]
    cases hm : mai[j]? with
    | none => rfl
    | some z =>
      have hz : z ≠ k := fun e => hj (va_nd_inj mai (by decide) q j k h (by rw [← e]; exact hm))
      show some (mad g z, mar g σ z) = some (mad g z, mar g (up2 σ k i v) z)
      rw [mar, mar, up2_n hz]
theorem mfs_put {g : MG} {σ : MS} {k : Nat} {v : Int32} (hk : k < 62) (h : mIsA k = false) : (mfs g σ).set k (.int v) = mfs g (up2 σ k 0 v) := by
  unfold mfs
  refine List.ext_getElem? fun j => ?_
  rw [List.getElem?_map, List.getElem?_set]
  by_cases hj : k = j
  · subst hj
    rw [if_pos rfl, List.length_map, List.length_range, if_pos hk, List.getElem?_range hk]
    show _ = some (if mIsA k = true then Value.ref (mad g k) else Value.int (up2 σ k 0 v k 0))
    rw [if_neg (by rw [h]; decide), up2_s, show upd (σ k) 0 v 0 = v from if_pos rfl]
  · rw [if_neg hj, List.getElem?_map]
    by_cases hl : j < 62
    · rw [List.getElem?_range hl]
      show some (if mIsA j = true then Value.ref (mad g j) else Value.int (σ j 0)) = some (if mIsA j = true then Value.ref (mad g j) else Value.int (up2 σ k 0 v j 0))
      rw [up2_n (fun e => hj e.symm)]
    · rw [List.getElem?_eq_none (by rw [List.length_range]; omega)]
      rfl
theorem mws_put {g : MG} {σ : MS} {k : Nat} {v : Int32} (hk : k < 62) (h : mIsA k = false) : (mws g σ).set 0 (mad g 62, .inr (mci g, (mfs g σ).set k (.int v))) = mws g (up2 σ k 0 v) := by
  rw [mfs_put hk h, mws, mws, List.set_cons_zero]
  congr 1
  refine List.map_congr_left fun j hj => ?_
  have hz : j ≠ k := fun e => by rw [e] at hj; have := mai_A k hj; rw [h] at this; cases this
  rw [mar, mar, up2_n hz]
theorem TX3_1 : ∀ k, k < 62 → (TX3 k).1 = RX3 := by decide +kernel
theorem mfs_i {g : MG} {σ : MS} {k : Nat} (hk : k < 62) (h : mIsA k = false) : (mfs g σ)[k]? = some (.int (σ k 0)) := by
  rw [mfs, List.getElem?_map, List.getElem?_range hk]
  show some (if mIsA k = true then Value.ref (mad g k) else Value.int (σ k 0)) = _
  rw [if_neg (by rw [h]; decide)]
theorem mfs_a {g : MG} {σ : MS} {k : Nat} (hk : k < 62) (h : mIsA k = true) : (mfs g σ)[k]? = some (.ref (mad g k)) := by
  rw [mfs, List.getElem?_map, List.getElem?_range hk]
  show some (if mIsA k = true then Value.ref (mad g k) else Value.int (σ k 0)) = _
  rw [if_pos h]
section MR
variable {p : Program} {l : Launch} {e : Env} {R : Room} {s : State} {m : MethodId} {args : Array Value} {below : List Frame} {meth : Method} {c : Code} {H : Heap} {locs : List Loc} {cells slots : Nat} {Q : State → Prop} {cc : ByteArray} {nL : Nat} {ret : Option FieldType}
variable {g : MG} {σ : MS} {pc index : Nat} {ls : Array Slot} {rest : List Value}
theorem m_rec (F : gFx p s m c meth args cc nL RX3 ret (mD g) (mcl g) (mty g)) (hO : MOK g) (hS : gSt (MWd g) (MA g) s σ H locs) : ∃ cellB : Cell, H[mad g 62]? = some cellB ∧ cellB.vm.isStatics = false ∧ s.vm.findClass RX3 = some cellB.cls := va_recv F.2.1 hS.1 hO.1 mws_0
theorem m_geti (F : gFx p s m c meth args cc nL RX3 ret (mD g) (mcl g) (mty g)) (hO : MOK g) (hS : gSt (MWd g) (MA g) s σ H locs) (k : Nat) (hk : k < 62) (hA : mIsA k = false) (hq : Cond.fieldLink RX3 index RX3 (TX3 k).2.1 (TX3 k).2.2.1 ∈ lw_all) (hdg : decode cc pc = .ok (.getfield index, 3))
    (kk : W p l e R s m args below meth c H locs cells slots Q (F0 m (pc + 3) ls (.int (σ k 0) :: rest))) : W p l e R s m args below meth c H locs cells slots Q (F0 m pc ls (.ref (mad g 62) :: rest)) :=
  va_get (D := mD g) (ci := mci g) (v := .int (σ k 0)) (C := RX3) (T := TX3) (N := 62) F.hx F.hb F.1.2.2.2.2 in_X3 F.1.2.2.2.1 F.2.1 hS.1 0 mws_0 hO.1 k hk (F.1.2.2.2.2 _ hq) (fun x h => by rw [TX3_1 k hk] at h; exact h) (mfs_i hk hA) hdg kk
theorem m_geta (F : gFx p s m c meth args cc nL RX3 ret (mD g) (mcl g) (mty g)) (hO : MOK g) (hS : gSt (MWd g) (MA g) s σ H locs) (k : Nat) (hk : k < 62) (hA : mIsA k = true) (hq : Cond.fieldLink RX3 index RX3 (TX3 k).2.1 (TX3 k).2.2.1 ∈ lw_all) (hdg : decode cc pc = .ok (.getfield index, 3))
    (kk : W p l e R s m args below meth c H locs cells slots Q (F0 m (pc + 3) ls (.ref (mad g k) :: rest))) : W p l e R s m args below meth c H locs cells slots Q (F0 m pc ls (.ref (mad g 62) :: rest)) :=
  va_get (D := mD g) (ci := mci g) (v := .ref (mad g k)) (C := RX3) (T := TX3) (N := 62) F.hx F.hb F.1.2.2.2.2 in_X3 F.1.2.2.2.1 F.2.1 hS.1 0 mws_0 hO.1 k hk (F.1.2.2.2.2 _ hq) (fun x h => by rw [TX3_1 k hk] at h; exact h) (mfs_a hk hA) hdg kk
theorem m_puti (F : gFx p s m c meth args cc nL RX3 ret (mD g) (mcl g) (mty g)) (hO : MOK g) (hS : gSt (MWd g) (MA g) s σ H locs) (k : Nat) (hk : k < 62) (hA : mIsA k = false) (hq : Cond.fieldLink RX3 index RX3 (TX3 k).2.1 (TX3 k).2.2.1 ∈ lw_all) (hfin : (TX3 k).2.2.2 = false) (hd : parseFieldDescriptor (TX3 k).2.2.1 = some .int) {v : Int32} (hdg : decode cc pc = .ok (.putfield index, 3))
    (kk : ∀ (σ1 : MS), σ1 = up2 σ k 0 v → ∀ (H1 : Heap) (locs1 : List Loc), gSt (MWd g) (MA g) s σ1 H1 locs1 → W p l e R s m args below meth c H1 locs1 cells slots Q (F0 m (pc + 3) ls rest)) : W p l e R s m args below meth c H locs cells slots Q (F0 m pc ls (.int v :: .ref (mad g 62) :: rest)) :=
  va_put (D := mD g) (ci := mci g) (v := .int v) (C := RX3) (T := TX3) (N := 62) F.hx F.hb F.1.2.2.2.2 in_X3 tyX3 tyX3_ok nmX3 F.1.2.2.2.1 F.2.1 hS.1 (m_D hO) hS.2 0 mws_0 hO.1 k hk (F.1.2.2.2.2 _ hq) (fun x h => by rw [TX3_1 k hk] at h; exact h) hfin hd rfl rfl (by rw [mfs, List.length_map, List.length_range]; exact hk) hdg
    (fun H1 locs1 h1 _ h3 => kk _ rfl H1 locs1 ⟨by rw [mws_put hk hA] at h1; exact h1, h3⟩)
theorem m_putz (F : gFx p s m c meth args cc nL RX3 ret (mD g) (mcl g) (mty g)) (hO : MOK g) (hS : gSt (MWd g) (MA g) s σ H locs) (k : Nat) (hk : k < 62) (hA : mIsA k = false) (hq : Cond.fieldLink RX3 index RX3 (TX3 k).2.1 (TX3 k).2.2.1 ∈ lw_all) (hfin : (TX3 k).2.2.2 = false) (hd : parseFieldDescriptor (TX3 k).2.2.1 = some .boolean) {v : Int32} (hz : bz v) (hdg : decode cc pc = .ok (.putfield index, 3))
    (kk : ∀ (σ1 : MS), σ1 = up2 σ k 0 v → ∀ (H1 : Heap) (locs1 : List Loc), gSt (MWd g) (MA g) s σ1 H1 locs1 → W p l e R s m args below meth c H1 locs1 cells slots Q (F0 m (pc + 3) ls rest)) : W p l e R s m args below meth c H locs cells slots Q (F0 m pc ls (.int v :: .ref (mad g 62) :: rest)) :=
  va_put (D := mD g) (ci := mci g) (v := .int v) (C := RX3) (T := TX3) (N := 62) F.hx F.hb F.1.2.2.2.2 in_X3 tyX3 tyX3_ok nmX3 F.1.2.2.2.1 F.2.1 hS.1 (m_D hO) hS.2 0 mws_0 hO.1 k hk (F.1.2.2.2.2 _ hq) (fun x h => by rw [TX3_1 k hk] at h; exact h) hfin hd (bz_nar hz) (bz_fit hz) (by rw [mfs, List.length_map, List.length_range]; exact hk) hdg
    (fun H1 locs1 h1 _ h3 => kk _ rfl H1 locs1 ⟨by rw [mws_put hk hA] at h1; exact h1, h3⟩)
theorem m_iald (F : gFx p s m c meth args cc nL RX3 ret (mD g) (mcl g) (mty g)) (hS : gSt (MWd g) (MA g) s σ H locs) (k q : Nat) (hk : mai[q]? = some k) (hz : mIsZ k = false) {i : Int32} (hin : vp_in i (mLen k)) (hdg : decode cc pc = .ok (.iaload, 1))
    (kk : W p l e R s m args below meth c H locs cells slots Q (F0 m (pc + 1) ls (.int (σ k i.toNatClampNeg) :: rest))) : W p l e R s m args below meth c H locs cells slots Q (F0 m pc ls (.int i :: .ref (mad g k) :: rest)) :=
  va_iald (cA := mcI g) (f := σ k) F.hx F.hb F.2.1 hS.1 (q + 1) 0 (by rw [mws_k hk, mar, if_neg (by rw [hz]; decide)]) rfl hin hdg kk
theorem m_zald (F : gFx p s m c meth args cc nL RX3 ret (mD g) (mcl g) (mty g)) (hS : gSt (MWd g) (MA g) s σ H locs) (k q : Nat) (hk : mai[q]? = some k) (hz : mIsZ k = true) {i : Int32} (hin : vp_in i (mLen k)) (hdg : decode cc pc = .ok (.baload, 1))
    (kk : W p l e R s m args below meth c H locs cells slots Q (F0 m (pc + 1) ls (.int (σ k i.toNatClampNeg) :: rest))) : W p l e R s m args below meth c H locs cells slots Q (F0 m pc ls (.int i :: .ref (mad g k) :: rest)) :=
  va_zald (cA := mcZ g) (f := σ k) F.hx F.hb F.2.1 hS.1 (q + 1) 1 (by rw [mws_k hk, mar, if_pos hz]) rfl hin hdg kk
theorem m_iast (F : gFx p s m c meth args cc nL RX3 ret (mD g) (mcl g) (mty g)) (hO : MOK g) (hS : gSt (MWd g) (MA g) s σ H locs) (k q : Nat) (hk : mai[q]? = some k) (hz : mIsZ k = false) {i v : Int32} (hin : vp_in i (mLen k)) (hdg : decode cc pc = .ok (.iastore, 1))
    (kk : ∀ (σ1 : MS), σ1 = up2 σ k i.toNatClampNeg v → ∀ (H1 : Heap) (locs1 : List Loc), gSt (MWd g) (MA g) s σ1 H1 locs1 → W p l e R s m args below meth c H1 locs1 cells slots Q (F0 m (pc + 1) ls rest)) : W p l e R s m args below meth c H locs cells slots Q (F0 m pc ls (.int v :: .int i :: .ref (mad g k) :: rest)) :=
  va_iast (cA := mcI g) (f := σ k) F.hx F.hb F.2.1 hS.1 (m_D hO) hS.2 (q + 1) 0 (by rw [mws_k hk, mar, if_neg (by rw [hz]; decide)]) rfl hin hdg
    (fun H1 locs1 h1 _ h3 => kk _ rfl H1 locs1 ⟨by have e := mws_up (g := g) (σ := σ) (i := i.toNatClampNeg) (v := v) hk; rw [if_neg (by rw [hz]; decide)] at e; rw [e] at h1; exact h1, h3⟩)
theorem m_zast (F : gFx p s m c meth args cc nL RX3 ret (mD g) (mcl g) (mty g)) (hO : MOK g) (hS : gSt (MWd g) (MA g) s σ H locs) (k q : Nat) (hk : mai[q]? = some k) (hz : mIsZ k = true) {i v : Int32} (hin : vp_in i (mLen k)) (hv : bz v) (hdg : decode cc pc = .ok (.bastore, 1))
    (kk : ∀ (σ1 : MS), σ1 = up2 σ k i.toNatClampNeg v → ∀ (H1 : Heap) (locs1 : List Loc), gSt (MWd g) (MA g) s σ1 H1 locs1 → W p l e R s m args below meth c H1 locs1 cells slots Q (F0 m (pc + 1) ls rest)) : W p l e R s m args below meth c H locs cells slots Q (F0 m pc ls (.int v :: .int i :: .ref (mad g k) :: rest)) :=
  va_zast (cA := mcZ g) (f := σ k) F.hx F.hb F.2.1 hS.1 (m_D hO) hS.2 (q + 1) 1 (by rw [mws_k hk, mar, if_pos hz]) rfl hin hdg
    (fun H1 locs1 h1 _ h3 => kk _ rfl H1 locs1 ⟨by rw [bz_vp hv] at h1; have e := mws_up (g := g) (σ := σ) (i := i.toNatClampNeg) (v := v) hk; rw [if_pos hz] at e; rw [e] at h1; exact h1, h3⟩)
end MR
