def wM_families_L15 (post : Int32 → MS → Prop) (K77 : MS → Int32 → Int32 → Int32 → Prop) : Nat → MS → Int32 → Int32 → Int32 → Int32 → Prop
  | 0, _, _, _, _, _ => False
  | n + 1, σ, x5, x6, x7, x8 => ((σ 18 0) ≤ x8 → K77 σ x5 x6 x7) ∧ (¬ ((σ 18 0) ≤ x8) → (¬ (((x5 >>> (x7 &&& 31)) &&& 1) = 1) → K77 σ x5 x6 x7) ∧ (((x5 >>> (x7 &&& 31)) &&& 1) = 1 → (vp_in x7 16 ∧ (((¬ (x8 = (σ 51 x7.toNatClampNeg)) → vp_in x8 16 ∧ vp_in x7 16)) ∧ ∀ v14 : Int32, v14 = (if x8 = (σ 51 x7.toNatClampNeg) then (1 : Int32) <<< (x8 &&& 31) else if (σ 20 x8.toNatClampNeg) = (σ 51 x7.toNatClampNeg) then (1 : Int32) <<< (x8 &&& 31) else 0) → (∀ x17 : Int32, x17 = x6 ||| v14 → ∀ x18 : Int32, x18 = x8 + 1 → wM_families_L15 post K77 n σ x5 x17 x7 x18)))))
def wM_families_L4 (post : Int32 → MS → Prop) : Nat → MS → Int32 → Int32 → Int32 → Prop
  | 0, _, _, _, _ => False
  | n + 1, σ, x1, x2, x3 => ((σ 52 0) ≤ x3 → post x2 σ) ∧ (¬ ((σ 52 0) ≤ x3) → ∃ n19, wM_families_L15 post (fun σ20 x21 x22 x23 => (∀ x24 : Int32, x24 = x23 + 1 → wM_families_L4 post n σ20 x21 x22 x24)) n19 σ x1 x2 x3 0)
def wM_families (post : Int32 → MS → Prop) (σ : MS) (a1 : Int32) : Prop := ∃ n25, wM_families_L4 post n25 σ a1 0 0
abbrev rM_families : Room := { frames := 0, cells := 0, slots := 0, locals := 0 }
set_option maxHeartbeats 4000000 in
set_option maxRecDepth 100000 in
theorem kM_families_L15 {p : Program} {l : Launch} {e : Env} {s : State} {m : MethodId} {args : Array Value} {below : List Frame} {meth : Method} {c : Code} {g : MG} {post : Int32 → MS → Prop} {K77 : MS → Int32 → Int32 → Int32 → Prop} (F : gFx p s m c meth args cX3_families 5 RX3 (some .int) (mD g) (mcl g) (mty g)) (hO : MOK g) (hK77 : ∀ (σ : MS) (z0 : Int32) (z1 : Int32) (z2 : Int32) (H : Heap) (locs : List Loc) (ls : Array Slot), gSt (MWd g) (MA g) s σ H locs → lv_has ls 5 [(0, .ref (mad g 62)), (1, .int z0), (2, .int z1), (3, .int z2)] → K77 σ z0 z1 z2 → W p l e rM_families s m args below meth c H locs 0 0 (MQ below (va_Qi post (gB (MWd g)) (MA g)) args s 0 0 (MA g)) (F0 m 77 ls [])) : ∀ (n : Nat) (σ : MS) (x5 : Int32) (x6 : Int32) (x7 : Int32) (x8 : Int32) (H : Heap) (locs : List Loc) (ls : Array Slot), gSt (MWd g) (MA g) s σ H locs → lv_has ls 5 [(0, .ref (mad g 62)), (1, .int x5), (2, .int x6), (3, .int x7), (4, .int x8)] → wM_families_L15 post K77 n σ x5 x6 x7 x8 → W p l e rM_families s m args below meth c H locs 0 0 (MQ below (va_Qi post (gB (MWd g)) (MA g)) args s 0 0 (MA g)) (F0 m 15 ls []) := by
  have hx := F.hx
  have hb := F.hb
  have hts := F.1.2.2.2.2
  have hown := F.1.2.2.2.1
  intro n
  induction n with
  | zero =>
    intro σ x5 x6 x7 x8 H locs ls hS hl h
    exact False.elim h
  | succ n ih =>
    intro σ x5 x6 x7 x8 H locs ls hS hl h
    rw [wM_families_L15] at h
    refine lv_iload hx hb dX3_families_15 (lv_at hl 4 rfl) ?_
    refine lv_aload_n hx hb dX3_families_17 rfl (lv_at hl 0 rfl) ?_
    refine m_geti F hO hS 18 (by decide) rfl q1415 dX3_families_18 ?_
    refine lv_icmp_ge (tgt := 77) hx hb dX3_families_21 (by decide) (fun c9 => ?_) (fun c9 => ?_)
    · have h := h.1 c9
      exact hK77 σ x5 x6 x7 H locs ls hS (lv_sub hl [0, 1, 2, 3] rfl) h
    · have h := h.2 c9
      refine lv_iload_n hx hb dX3_families_24 rfl (lv_at hl 1 rfl) ?_
      refine lv_iload_n hx hb dX3_families_25 rfl (lv_at hl 3 rfl) ?_
      refine lv_ishr hx hb dX3_families_26 ?_
      refine lv_iconst (v := 1) hx hb dX3_families_27 (by decide) ?_
      refine lv_iand hx hb dX3_families_28 ?_
      refine lv_iconst (v := 1) hx hb dX3_families_29 (by decide) ?_
      refine lv_icmp_ne (tgt := 77) hx hb dX3_families_30 (by decide) (fun c10 => ?_) (fun c10 => ?_)
      · have h := h.1 c10
        exact hK77 σ x5 x6 x7 H locs ls hS (lv_sub hl [0, 1, 2, 3] rfl) h
      · have h := h.2 c10
        refine lv_iload_n hx hb dX3_families_33 rfl (lv_at hl 2 rfl) ?_
        refine lv_iload hx hb dX3_families_34 (lv_at hl 4 rfl) ?_
        refine lv_aload_n hx hb dX3_families_36 rfl (lv_at hl 0 rfl) ?_
        refine m_geta F hO hS 51 (by decide) rfl q1448 dX3_families_37 ?_
        refine lv_iload_n hx hb dX3_families_40 rfl (lv_at hl 3 rfl) ?_
        obtain ⟨b11, h⟩ := h
        refine m_iald F hS 51 40 rfl rfl b11 dX3_families_41 ?_
        obtain ⟨b15, h⟩ := h
        refine gcut (P := ∀ (v14 : Int32) (H : Heap) (locs : List Loc) (ls : Array Slot), v14 = (if x8 = (σ 51 x7.toNatClampNeg) then (1 : Int32) <<< (x8 &&& 31) else if (σ 20 x8.toNatClampNeg) = (σ 51 x7.toNatClampNeg) then (1 : Int32) <<< (x8 &&& 31) else 0) → gSt (MWd g) (MA g) s σ H locs → lv_has ls 5 [(0, .ref (mad g 62)), (1, .int x5), (3, .int x7), (4, .int x8)] → W p l e rM_families s m args below meth c H locs 0 0 (MQ below (va_Qi post (gB (MWd g)) (MA g)) args s 0 0 (MA g)) (F0 m 69 ls [.int v14, .int x6])) (fun v14 H locs ls ev14 hS hl => ?_) (fun J16 => ?_)
        · have h := h v14 ev14
          refine lv_ior hx hb dX3_families_69 ?_
          refine lv_topi (fun x17 ex17 => ?_)
          have h := h x17 ex17
          refine lv_istore_n (lv' := [(2, .int x17), (0, .ref (mad g 62)), (1, .int x5), (3, .int x7), (4, .int x8)]) hx hb dX3_families_70 rfl hl (by decide) rfl (fun ls hl => ?_)
          obtain ⟨x18, ex18⟩ : ∃ y : Int32, y = x8 + 1 := ⟨_, rfl⟩
          have h := h x18 ex18
          refine lv_iinc (v := x18) (lv' := [(4, .int x18), (2, .int x17), (0, .ref (mad g 62)), (1, .int x5), (3, .int x7)]) hx hb dX3_families_71 hl (k := 4) rfl (by rw [ex18]; rfl) (by decide) rfl (fun ls hl => ?_)
          refine lv_goto (tgt := 15) hx hb dX3_families_74 (by decide) ?_
          exact ih σ x5 x17 x7 x18 H locs ls hS (lv_sub hl [2, 3, 1, 4, 0] rfl) h
        · refine lv_icmp_eq (tgt := 61) hx hb dX3_families_42 (by decide) (fun c12 => ?_) (fun c12 => ?_)
          · refine lv_iconst (v := 1) hx hb dX3_families_61 (by decide) ?_
            refine lv_iload hx hb dX3_families_62 (lv_at hl 4 rfl) ?_
            refine lv_ishl hx hb dX3_families_64 ?_
            refine lv_goto (tgt := 69) hx hb dX3_families_65 (by decide) ?_
            exact J16 _ H locs ls (by first | with_reducible rfl | ((try rw [if_pos c12]); done)) hS (lv_sub hl [0, 1, 3, 4] rfl)
          · refine lv_aload_n hx hb dX3_families_45 rfl (lv_at hl 0 rfl) ?_
            refine m_geta F hO hS 20 (by decide) rfl q1417 dX3_families_46 ?_
            refine lv_iload hx hb dX3_families_49 (lv_at hl 4 rfl) ?_
            refine m_iald F hS 20 16 rfl rfl ((b15 c12).1) dX3_families_51 ?_
            refine lv_aload_n hx hb dX3_families_52 rfl (lv_at hl 0 rfl) ?_
            refine m_geta F hO hS 51 (by decide) rfl q1448 dX3_families_53 ?_
            refine lv_iload_n hx hb dX3_families_56 rfl (lv_at hl 3 rfl) ?_
            refine m_iald F hS 51 40 rfl rfl ((b15 c12).2) dX3_families_57 ?_
            refine lv_icmp_ne (tgt := 68) hx hb dX3_families_58 (by decide) (fun c13 => ?_) (fun c13 => ?_)
            · refine lv_iconst (v := 0) hx hb dX3_families_68 (by decide) ?_
              exact J16 _ H locs ls (by first | with_reducible rfl | ((try rw [if_neg c12]); (try rw [if_neg c13]); done)) hS (lv_sub hl [0, 1, 3, 4] rfl)
            · refine lv_iconst (v := 1) hx hb dX3_families_61 (by decide) ?_
              refine lv_iload hx hb dX3_families_62 (lv_at hl 4 rfl) ?_
              refine lv_ishl hx hb dX3_families_64 ?_
              refine lv_goto (tgt := 69) hx hb dX3_families_65 (by decide) ?_
              exact J16 _ H locs ls (by first | with_reducible rfl | ((try rw [if_neg c12]); (try rw [if_pos c13]); done)) hS (lv_sub hl [0, 1, 3, 4] rfl)
set_option maxHeartbeats 4000000 in
set_option maxRecDepth 100000 in
theorem kM_families_L4 {p : Program} {l : Launch} {e : Env} {s : State} {m : MethodId} {args : Array Value} {below : List Frame} {meth : Method} {c : Code} {g : MG} {post : Int32 → MS → Prop} (F : gFx p s m c meth args cX3_families 5 RX3 (some .int) (mD g) (mcl g) (mty g)) (hO : MOK g) : ∀ (n : Nat) (σ : MS) (x1 : Int32) (x2 : Int32) (x3 : Int32) (H : Heap) (locs : List Loc) (ls : Array Slot), gSt (MWd g) (MA g) s σ H locs → lv_has ls 5 [(0, .ref (mad g 62)), (1, .int x1), (2, .int x2), (3, .int x3)] → wM_families_L4 post n σ x1 x2 x3 → W p l e rM_families s m args below meth c H locs 0 0 (MQ below (va_Qi post (gB (MWd g)) (MA g)) args s 0 0 (MA g)) (F0 m 4 ls []) := by
  have hx := F.hx
  have hb := F.hb
  have hts := F.1.2.2.2.2
  have hown := F.1.2.2.2.1
  intro n
  induction n with
  | zero =>
    intro σ x1 x2 x3 H locs ls hS hl h
    exact False.elim h
  | succ n ih =>
    intro σ x1 x2 x3 H locs ls hS hl h
    rw [wM_families_L4] at h
    refine lv_iload_n hx hb dX3_families_4 rfl (lv_at hl 3 rfl) ?_
    refine lv_aload_n hx hb dX3_families_5 rfl (lv_at hl 0 rfl) ?_
    refine m_geti F hO hS 52 (by decide) rfl q1449 dX3_families_6 ?_
    refine lv_icmp_ge (tgt := 83) hx hb dX3_families_9 (by decide) (fun c4 => ?_) (fun c4 => ?_)
    · have h := h.1 c4
      refine lv_iload_n hx hb dX3_families_83 rfl (lv_at hl 2 rfl) ?_
      exact gw_iret F hS h dX3_families_84
    · have h := h.2 c4
      refine lv_iconst (v := 0) hx hb dX3_families_12 (by decide) ?_
      refine lv_istore (lv' := [(4, .int 0), (0, .ref (mad g 62)), (1, .int x1), (2, .int x2), (3, .int x3)]) hx hb dX3_families_13 hl (by decide) rfl (fun ls hl => ?_)
      obtain ⟨n19, h⟩ := h
      refine (kM_families_L15 F hO ?_ n19) σ x1 x2 x3 0 H locs ls hS (lv_sub hl [1, 2, 3, 4, 0] rfl) h
      · intro σ20 x21 x22 x23 H locs ls hS hl h
        obtain ⟨x24, ex24⟩ : ∃ y : Int32, y = x23 + 1 := ⟨_, rfl⟩
        have h := h x24 ex24
        refine lv_iinc (v := x24) (lv' := [(3, .int x24), (0, .ref (mad g 62)), (1, .int x21), (2, .int x22)]) hx hb dX3_families_77 hl (k := 3) rfl (by rw [ex24]; rfl) (by decide) rfl (fun ls hl => ?_)
        refine lv_goto (tgt := 4) hx hb dX3_families_80 (by decide) ?_
        exact ih σ20 x21 x22 x24 H locs ls hS (lv_sub hl [1, 2, 3, 0] rfl) h
set_option maxHeartbeats 4000000 in
set_option maxRecDepth 100000 in
theorem kM_families {p : Program} {l : Launch} {e : Env} {s : State} {m : MethodId} {args : Array Value} {below : List Frame} {meth : Method} {c : Code} {g : MG} {post : Int32 → MS → Prop} (F : gFx p s m c meth args cX3_families 5 RX3 (some .int) (mD g) (mcl g) (mty g)) (hO : MOK g) (σ : MS) (a1 : Int32) (H : Heap) (locs : List Loc) (ls : Array Slot) (hS : gSt (MWd g) (MA g) s σ H locs) (hl : lv_has ls 5 [(0, .ref (mad g 62)), (1, .int a1)]) (h : wM_families post σ a1) : W p l e rM_families s m args below meth c H locs 0 0 (MQ below (va_Qi post (gB (MWd g)) (MA g)) args s 0 0 (MA g)) (F0 m 0 ls []) := by
  have hx := F.hx
  have hb := F.hb
  have hts := F.1.2.2.2.2
  have hown := F.1.2.2.2.1
  rw [wM_families] at h
  refine lv_iconst (v := 0) hx hb dX3_families_0 (by decide) ?_
  refine lv_istore_n (lv' := [(2, .int 0), (0, .ref (mad g 62)), (1, .int a1)]) hx hb dX3_families_1 rfl hl (by decide) rfl (fun ls hl => ?_)
  refine lv_iconst (v := 0) hx hb dX3_families_2 (by decide) ?_
  refine lv_istore_n (lv' := [(3, .int 0), (2, .int 0), (0, .ref (mad g 62)), (1, .int a1)]) hx hb dX3_families_3 rfl hl (by decide) rfl (fun ls hl => ?_)
  obtain ⟨n25, h⟩ := h
  exact (kM_families_L4 F hO n25) σ a1 0 0 H locs ls hS (lv_sub hl [2, 3, 1, 0] rfl) h
set_option maxHeartbeats 4000000 in
set_option maxRecDepth 100000 in
theorem tM_families (l : Launch) (g : MG) (hO : MOK g) (σ : MS) (a1 : Int32) (post : Int32 → MS → Prop) (h : wM_families post σ a1) : Met l yX3_families (ws_ yX3_families cX3_families 5 (some .int)) rM_families (va_Pc [.ref (mad g 62), .int a1] (gPre (MWd g) (mD g) (mcl g) (mty g) σ)) (va_Qi post (gB (MWd g)) (MA g)) 0 0 (MA g) := by
  refine Met.ofW (cc := cX3_families) (maxL := 5) (ret := (some .int)) (by decide) rfl ?_
  intro p e s m args below meth c s₁ B hml hv
  obtain ⟨rfl, hW, hK⟩ := hv
  have hts := atoms_spec (ws := (ws_ yX3_families cX3_families 5 (some .int))) B.pre
  have hts : ∀ w ∈ lw_all, w.before _ s = true := fun w h => hts w (List.mem_cons_of_mem _ h)
  have hl := lv_entry ([.ref (mad g 62), .int a1]) (n := 5) (Nat.le_of_ble_eq_true rfl)
  rw [lg_entry_eq]
  generalize (lg_sl ([.ref (mad g 62), .int a1]) ++ List.replicate (5 - (lg_sl ([.ref (mad g 62), .int a1])).length) Slot.unset).toArray = ls at hl ⊢
  exact kM_families ⟨⟨B.exec, B.bytes, hml, findClass_of_methodNamed B.named, hts⟩, hK, B.returns, B.notSynchronized⟩ hO σ a1 s.heap [] ls ⟨hW, va_S.rf⟩ hl h
def wM_strengthOf_L4 (post : Int32 → MS → Prop) : Nat → MS → Int32 → Int32 → Int32 → Prop
  | 0, _, _, _, _ => False
  | n + 1, σ, x1, x2, x3 => ((σ 18 0) ≤ x3 → post x2 σ) ∧ (¬ ((σ 18 0) ≤ x3) → (((((x1 >>> (x3 &&& 31)) &&& 1) = 1 → vp_in x3 16)) ∧ ∀ v6 : Int32, v6 = (if ((x1 >>> (x3 &&& 31)) &&& 1) = 1 then σ 19 x3.toNatClampNeg else 0) → (∀ x9 : Int32, x9 = x2 + v6 → ∀ x10 : Int32, x10 = x3 + 1 → wM_strengthOf_L4 post n σ x1 x9 x10)))
def wM_strengthOf (post : Int32 → MS → Prop) (σ : MS) (a1 : Int32) : Prop := ∃ n11, wM_strengthOf_L4 post n11 σ a1 0 0
abbrev rM_strengthOf : Room := { frames := 0, cells := 0, slots := 0, locals := 0 }
set_option maxHeartbeats 4000000 in
set_option maxRecDepth 100000 in
theorem kM_strengthOf_L4 {p : Program} {l : Launch} {e : Env} {s : State} {m : MethodId} {args : Array Value} {below : List Frame} {meth : Method} {c : Code} {g : MG} {post : Int32 → MS → Prop} (F : gFx p s m c meth args cX3_strengthOf 4 RX3 (some .int) (mD g) (mcl g) (mty g)) (hO : MOK g) : ∀ (n : Nat) (σ : MS) (x1 : Int32) (x2 : Int32) (x3 : Int32) (H : Heap) (locs : List Loc) (ls : Array Slot), gSt (MWd g) (MA g) s σ H locs → lv_has ls 4 [(0, .ref (mad g 62)), (1, .int x1), (2, .int x2), (3, .int x3)] → wM_strengthOf_L4 post n σ x1 x2 x3 → W p l e rM_strengthOf s m args below meth c H locs 0 0 (MQ below (va_Qi post (gB (MWd g)) (MA g)) args s 0 0 (MA g)) (F0 m 4 ls []) := by
  have hx := F.hx
  have hb := F.hb
  have hts := F.1.2.2.2.2
  have hown := F.1.2.2.2.1
  intro n
  induction n with
  | zero =>
    intro σ x1 x2 x3 H locs ls hS hl h
    exact False.elim h
  | succ n ih =>
    intro σ x1 x2 x3 H locs ls hS hl h
    rw [wM_strengthOf_L4] at h
    refine lv_iload_n hx hb dX3_strengthOf_4 rfl (lv_at hl 3 rfl) ?_
    refine lv_aload_n hx hb dX3_strengthOf_5 rfl (lv_at hl 0 rfl) ?_
    refine m_geti F hO hS 18 (by decide) rfl q1415 dX3_strengthOf_6 ?_
    refine lv_icmp_ge (tgt := 40) hx hb dX3_strengthOf_9 (by decide) (fun c4 => ?_) (fun c4 => ?_)
    · have h := h.1 c4
      refine lv_iload_n hx hb dX3_strengthOf_40 rfl (lv_at hl 2 rfl) ?_
      exact gw_iret F hS h dX3_strengthOf_41
    · have h := h.2 c4
      refine lv_iload_n hx hb dX3_strengthOf_12 rfl (lv_at hl 2 rfl) ?_
      refine lv_iload_n hx hb dX3_strengthOf_13 rfl (lv_at hl 1 rfl) ?_
      refine lv_iload_n hx hb dX3_strengthOf_14 rfl (lv_at hl 3 rfl) ?_
      refine lv_ishr hx hb dX3_strengthOf_15 ?_
      refine lv_iconst (v := 1) hx hb dX3_strengthOf_16 (by decide) ?_
      refine lv_iand hx hb dX3_strengthOf_17 ?_
      refine lv_iconst (v := 1) hx hb dX3_strengthOf_18 (by decide) ?_
      obtain ⟨b7, h⟩ := h
      refine gcut (P := ∀ (v6 : Int32) (H : Heap) (locs : List Loc) (ls : Array Slot), v6 = (if ((x1 >>> (x3 &&& 31)) &&& 1) = 1 then σ 19 x3.toNatClampNeg else 0) → gSt (MWd g) (MA g) s σ H locs → lv_has ls 4 [(0, .ref (mad g 62)), (1, .int x1), (3, .int x3)] → W p l e rM_strengthOf s m args below meth c H locs 0 0 (MQ below (va_Qi post (gB (MWd g)) (MA g)) args s 0 0 (MA g)) (F0 m 32 ls [.int v6, .int x2])) (fun v6 H locs ls ev6 hS hl => ?_) (fun J8 => ?_)
      · have h := h v6 ev6
        refine lv_iadd hx hb dX3_strengthOf_32 ?_
        refine lv_topi (fun x9 ex9 => ?_)
        have h := h x9 ex9
        refine lv_istore_n (lv' := [(2, .int x9), (0, .ref (mad g 62)), (1, .int x1), (3, .int x3)]) hx hb dX3_strengthOf_33 rfl hl (by decide) rfl (fun ls hl => ?_)
        obtain ⟨x10, ex10⟩ : ∃ y : Int32, y = x3 + 1 := ⟨_, rfl⟩
        have h := h x10 ex10
        refine lv_iinc (v := x10) (lv' := [(3, .int x10), (2, .int x9), (0, .ref (mad g 62)), (1, .int x1)]) hx hb dX3_strengthOf_34 hl (k := 3) rfl (by rw [ex10]; rfl) (by decide) rfl (fun ls hl => ?_)
        refine lv_goto (tgt := 4) hx hb dX3_strengthOf_37 (by decide) ?_
        exact ih σ x1 x9 x10 H locs ls hS (lv_sub hl [2, 3, 1, 0] rfl) h
      · refine lv_icmp_ne (tgt := 31) hx hb dX3_strengthOf_19 (by decide) (fun c5 => ?_) (fun c5 => ?_)
        · refine lv_iconst (v := 0) hx hb dX3_strengthOf_31 (by decide) ?_
          exact J8 _ H locs ls (by first | with_reducible rfl | ((try rw [if_neg c5]); done)) hS (lv_sub hl [0, 1, 3] rfl)
        · refine lv_aload_n hx hb dX3_strengthOf_22 rfl (lv_at hl 0 rfl) ?_
          refine m_geta F hO hS 19 (by decide) rfl q1416 dX3_strengthOf_23 ?_
          refine lv_iload_n hx hb dX3_strengthOf_26 rfl (lv_at hl 3 rfl) ?_
          refine m_iald F hS 19 15 rfl rfl ((b7 c5)) dX3_strengthOf_27 ?_
          refine lv_goto (tgt := 32) hx hb dX3_strengthOf_28 (by decide) ?_
          exact J8 _ H locs ls (by first | with_reducible rfl | ((try rw [if_pos c5]); done)) hS (lv_sub hl [0, 1, 3] rfl)
set_option maxHeartbeats 4000000 in
set_option maxRecDepth 100000 in
theorem kM_strengthOf {p : Program} {l : Launch} {e : Env} {s : State} {m : MethodId} {args : Array Value} {below : List Frame} {meth : Method} {c : Code} {g : MG} {post : Int32 → MS → Prop} (F : gFx p s m c meth args cX3_strengthOf 4 RX3 (some .int) (mD g) (mcl g) (mty g)) (hO : MOK g) (σ : MS) (a1 : Int32) (H : Heap) (locs : List Loc) (ls : Array Slot) (hS : gSt (MWd g) (MA g) s σ H locs) (hl : lv_has ls 4 [(0, .ref (mad g 62)), (1, .int a1)]) (h : wM_strengthOf post σ a1) : W p l e rM_strengthOf s m args below meth c H locs 0 0 (MQ below (va_Qi post (gB (MWd g)) (MA g)) args s 0 0 (MA g)) (F0 m 0 ls []) := by
  have hx := F.hx
  have hb := F.hb
  have hts := F.1.2.2.2.2
  have hown := F.1.2.2.2.1
  rw [wM_strengthOf] at h
  refine lv_iconst (v := 0) hx hb dX3_strengthOf_0 (by decide) ?_
  refine lv_istore_n (lv' := [(2, .int 0), (0, .ref (mad g 62)), (1, .int a1)]) hx hb dX3_strengthOf_1 rfl hl (by decide) rfl (fun ls hl => ?_)
  refine lv_iconst (v := 0) hx hb dX3_strengthOf_2 (by decide) ?_
  refine lv_istore_n (lv' := [(3, .int 0), (2, .int 0), (0, .ref (mad g 62)), (1, .int a1)]) hx hb dX3_strengthOf_3 rfl hl (by decide) rfl (fun ls hl => ?_)
  obtain ⟨n11, h⟩ := h
  exact (kM_strengthOf_L4 F hO n11) σ a1 0 0 H locs ls hS (lv_sub hl [2, 3, 1, 0] rfl) h
set_option maxHeartbeats 4000000 in
set_option maxRecDepth 100000 in
theorem tM_strengthOf (l : Launch) (g : MG) (hO : MOK g) (σ : MS) (a1 : Int32) (post : Int32 → MS → Prop) (h : wM_strengthOf post σ a1) : Met l yX3_strengthOf (ws_ yX3_strengthOf cX3_strengthOf 4 (some .int)) rM_strengthOf (va_Pc [.ref (mad g 62), .int a1] (gPre (MWd g) (mD g) (mcl g) (mty g) σ)) (va_Qi post (gB (MWd g)) (MA g)) 0 0 (MA g) := by
  refine Met.ofW (cc := cX3_strengthOf) (maxL := 4) (ret := (some .int)) (by decide) rfl ?_
  intro p e s m args below meth c s₁ B hml hv
  obtain ⟨rfl, hW, hK⟩ := hv
  have hts := atoms_spec (ws := (ws_ yX3_strengthOf cX3_strengthOf 4 (some .int))) B.pre
  have hts : ∀ w ∈ lw_all, w.before _ s = true := fun w h => hts w (List.mem_cons_of_mem _ h)
  have hl := lv_entry ([.ref (mad g 62), .int a1]) (n := 4) (Nat.le_of_ble_eq_true rfl)
  rw [lg_entry_eq]
  generalize (lg_sl ([.ref (mad g 62), .int a1]) ++ List.replicate (4 - (lg_sl ([.ref (mad g 62), .int a1])).length) Slot.unset).toArray = ls at hl ⊢
  exact kM_strengthOf ⟨⟨B.exec, B.bytes, hml, findClass_of_methodNamed B.named, hts⟩, hK, B.returns, B.notSynchronized⟩ hO σ a1 s.heap [] ls ⟨hW, va_S.rf⟩ hl h
def wM_isAhead_J27 (post : Int32 → MS → Prop) (σ : MS) (x5 : Int32) (x6 : Int32) : Prop := (∀ v9 : Int32, v9 = (if 16 ≤ x6 then 0 else if ((x5 >>> (x6 &&& 31)) &&& 1) = 1 then 1 else 0) → post v9 σ)
def wM_isAhead_L2 (post : Int32 → MS → Prop) : Nat → MS → Int32 → Int32 → Int32 → Prop
  | 0, _, _, _, _ => False
  | n + 1, σ, x1, x2, x3 => (16 ≤ x3 → wM_isAhead_J27 post σ x1 x3) ∧ (¬ (16 ≤ x3) → (¬ (((x1 >>> (x3 &&& 31)) &&& 1) = ((x2 >>> (x3 &&& 31)) &&& 1)) → wM_isAhead_J27 post σ x1 x3) ∧ (((x1 >>> (x3 &&& 31)) &&& 1) = ((x2 >>> (x3 &&& 31)) &&& 1) → (∀ x12 : Int32, x12 = x3 + 1 → wM_isAhead_L2 post n σ x1 x2 x12)))
def wM_isAhead (post : Int32 → MS → Prop) (σ : MS) (a0 : Int32) (a1 : Int32) : Prop := ∃ n13, wM_isAhead_L2 post n13 σ a0 a1 0
abbrev rM_isAhead : Room := { frames := 0, cells := 0, slots := 0, locals := 0 }
set_option maxHeartbeats 4000000 in
set_option maxRecDepth 100000 in
theorem kM_isAhead_J27 {p : Program} {l : Launch} {e : Env} {s : State} {m : MethodId} {args : Array Value} {below : List Frame} {meth : Method} {c : Code} {g : MG} {post : Int32 → MS → Prop} (F : gFx p s m c meth args cX3_isAhead 3 RX3 (some .boolean) (mD g) (mcl g) (mty g)) (hO : MOK g) : ∀ (σ : MS) (x5 : Int32) (x6 : Int32) (H : Heap) (locs : List Loc) (ls : Array Slot), gSt (MWd g) (MA g) s σ H locs → lv_has ls 3 [(0, .int x5), (2, .int x6)] → wM_isAhead_J27 post σ x5 x6 → W p l e rM_isAhead s m args below meth c H locs 0 0 (MQ below (va_Qi (zpost post) (gB (MWd g)) (MA g)) args s 0 0 (MA g)) (F0 m 27 ls []) := by
  have hx := F.hx
  have hb := F.hb
  have hts := F.1.2.2.2.2
  have hown := F.1.2.2.2.1
  intro σ x5 x6 H locs ls hS hl h
  rw [wM_isAhead_J27] at h
  refine lv_iload_n hx hb dX3_isAhead_27 rfl (lv_at hl 1 rfl) ?_
  refine lv_bipush (v := 16) hx hb dX3_isAhead_28 (by decide) ?_
  refine gcut (P := ∀ (v9 : Int32) (H : Heap) (locs : List Loc) (ls : Array Slot), v9 = (if 16 ≤ x6 then 0 else if ((x5 >>> (x6 &&& 31)) &&& 1) = 1 then 1 else 0) → gSt (MWd g) (MA g) s σ H locs → lv_has ls 3 [] → W p l e rM_isAhead s m args below meth c H locs 0 0 (MQ below (va_Qi (zpost post) (gB (MWd g)) (MA g)) args s 0 0 (MA g)) (F0 m 47 ls [.int v9])) (fun v9 H locs ls ev9 hS hl => ?_) (fun J10 => ?_)
  · have h := h v9 ev9
    exact gw_zret F hS (by rw [ev9]; exact (bz_ite bz0 (bz_ite bz1 bz0))) h dX3_isAhead_47
  · refine lv_icmp_ge (tgt := 46) hx hb dX3_isAhead_30 (by decide) (fun c7 => ?_) (fun c7 => ?_)
    · refine lv_iconst (v := 0) hx hb dX3_isAhead_46 (by decide) ?_
      exact J10 _ H locs ls (by first | with_reducible rfl | ((try rw [if_pos c7]); done)) hS (lv_sub hl [] rfl)
    · refine lv_iload_n hx hb dX3_isAhead_33 rfl (lv_at hl 0 rfl) ?_
      refine lv_iload_n hx hb dX3_isAhead_34 rfl (lv_at hl 1 rfl) ?_
      refine lv_ishr hx hb dX3_isAhead_35 ?_
      refine lv_iconst (v := 1) hx hb dX3_isAhead_36 (by decide) ?_
      refine lv_iand hx hb dX3_isAhead_37 ?_
      refine lv_iconst (v := 1) hx hb dX3_isAhead_38 (by decide) ?_
      refine lv_icmp_ne (tgt := 46) hx hb dX3_isAhead_39 (by decide) (fun c8 => ?_) (fun c8 => ?_)
      · refine lv_iconst (v := 0) hx hb dX3_isAhead_46 (by decide) ?_
        exact J10 _ H locs ls (by first | with_reducible rfl | ((try rw [if_neg c7]); (try rw [if_neg c8]); done)) hS (lv_sub hl [] rfl)
      · refine lv_iconst (v := 1) hx hb dX3_isAhead_42 (by decide) ?_
        refine lv_goto (tgt := 47) hx hb dX3_isAhead_43 (by decide) ?_
        exact J10 _ H locs ls (by first | with_reducible rfl | ((try rw [if_neg c7]); (try rw [if_pos c8]); done)) hS (lv_sub hl [] rfl)
set_option maxHeartbeats 4000000 in
set_option maxRecDepth 100000 in
theorem kM_isAhead_L2 {p : Program} {l : Launch} {e : Env} {s : State} {m : MethodId} {args : Array Value} {below : List Frame} {meth : Method} {c : Code} {g : MG} {post : Int32 → MS → Prop} (F : gFx p s m c meth args cX3_isAhead 3 RX3 (some .boolean) (mD g) (mcl g) (mty g)) (hO : MOK g) : ∀ (n : Nat) (σ : MS) (x1 : Int32) (x2 : Int32) (x3 : Int32) (H : Heap) (locs : List Loc) (ls : Array Slot), gSt (MWd g) (MA g) s σ H locs → lv_has ls 3 [(0, .int x1), (1, .int x2), (2, .int x3)] → wM_isAhead_L2 post n σ x1 x2 x3 → W p l e rM_isAhead s m args below meth c H locs 0 0 (MQ below (va_Qi (zpost post) (gB (MWd g)) (MA g)) args s 0 0 (MA g)) (F0 m 2 ls []) := by
  have hx := F.hx
  have hb := F.hb
  have hts := F.1.2.2.2.2
  have hown := F.1.2.2.2.1
  intro n
  induction n with
  | zero =>
    intro σ x1 x2 x3 H locs ls hS hl h
    exact False.elim h
  | succ n ih =>
    intro σ x1 x2 x3 H locs ls hS hl h
    rw [wM_isAhead_L2] at h
    refine lv_iload_n hx hb dX3_isAhead_2 rfl (lv_at hl 2 rfl) ?_
    refine lv_bipush (v := 16) hx hb dX3_isAhead_3 (by decide) ?_
    refine lv_icmp_ge (tgt := 27) hx hb dX3_isAhead_5 (by decide) (fun c4 => ?_) (fun c4 => ?_)
    · have h := h.1 c4
      exact (kM_isAhead_J27 F hO) σ x1 x3 H locs ls hS (lv_sub hl [0, 2] rfl) h
    · have h := h.2 c4
      refine lv_iload_n hx hb dX3_isAhead_8 rfl (lv_at hl 0 rfl) ?_
      refine lv_iload_n hx hb dX3_isAhead_9 rfl (lv_at hl 2 rfl) ?_
      refine lv_ishr hx hb dX3_isAhead_10 ?_
      refine lv_iconst (v := 1) hx hb dX3_isAhead_11 (by decide) ?_
      refine lv_iand hx hb dX3_isAhead_12 ?_
      refine lv_iload_n hx hb dX3_isAhead_13 rfl (lv_at hl 1 rfl) ?_
      refine lv_iload_n hx hb dX3_isAhead_14 rfl (lv_at hl 2 rfl) ?_
      refine lv_ishr hx hb dX3_isAhead_15 ?_
      refine lv_iconst (v := 1) hx hb dX3_isAhead_16 (by decide) ?_
      refine lv_iand hx hb dX3_isAhead_17 ?_
      refine lv_icmp_ne (tgt := 27) hx hb dX3_isAhead_18 (by decide) (fun c11 => ?_) (fun c11 => ?_)
      · have h := h.1 c11
        exact (kM_isAhead_J27 F hO) σ x1 x3 H locs ls hS (lv_sub hl [0, 2] rfl) h
      · have h := h.2 c11
        obtain ⟨x12, ex12⟩ : ∃ y : Int32, y = x3 + 1 := ⟨_, rfl⟩
        have h := h x12 ex12
        refine lv_iinc (v := x12) (lv' := [(2, .int x12), (0, .int x1), (1, .int x2)]) hx hb dX3_isAhead_21 hl (k := 2) rfl (by rw [ex12]; rfl) (by decide) rfl (fun ls hl => ?_)
        refine lv_goto (tgt := 2) hx hb dX3_isAhead_24 (by decide) ?_
        exact ih σ x1 x2 x12 H locs ls hS (lv_sub hl [1, 2, 0] rfl) h
set_option maxHeartbeats 4000000 in
set_option maxRecDepth 100000 in
theorem kM_isAhead {p : Program} {l : Launch} {e : Env} {s : State} {m : MethodId} {args : Array Value} {below : List Frame} {meth : Method} {c : Code} {g : MG} {post : Int32 → MS → Prop} (F : gFx p s m c meth args cX3_isAhead 3 RX3 (some .boolean) (mD g) (mcl g) (mty g)) (hO : MOK g) (σ : MS) (a0 : Int32) (a1 : Int32) (H : Heap) (locs : List Loc) (ls : Array Slot) (hS : gSt (MWd g) (MA g) s σ H locs) (hl : lv_has ls 3 [(0, .int a0), (1, .int a1)]) (h : wM_isAhead post σ a0 a1) : W p l e rM_isAhead s m args below meth c H locs 0 0 (MQ below (va_Qi (zpost post) (gB (MWd g)) (MA g)) args s 0 0 (MA g)) (F0 m 0 ls []) := by
  have hx := F.hx
  have hb := F.hb
  have hts := F.1.2.2.2.2
  have hown := F.1.2.2.2.1
  rw [wM_isAhead] at h
  refine lv_iconst (v := 0) hx hb dX3_isAhead_0 (by decide) ?_
  refine lv_istore_n (lv' := [(2, .int 0), (0, .int a0), (1, .int a1)]) hx hb dX3_isAhead_1 rfl hl (by decide) rfl (fun ls hl => ?_)
  obtain ⟨n13, h⟩ := h
  exact (kM_isAhead_L2 F hO n13) σ a0 a1 0 H locs ls hS (lv_sub hl [1, 2, 0] rfl) h
set_option maxHeartbeats 4000000 in
set_option maxRecDepth 100000 in
theorem tM_isAhead (l : Launch) (g : MG) (hO : MOK g) (σ : MS) (a0 : Int32) (a1 : Int32) (post : Int32 → MS → Prop) (h : wM_isAhead post σ a0 a1) : Met l yX3_isAhead (ws_ yX3_isAhead cX3_isAhead 3 (some .boolean)) rM_isAhead (va_Pc [.int a0, .int a1] (gPre (MWd g) (mD g) (mcl g) (mty g) σ)) (va_Qi (zpost post) (gB (MWd g)) (MA g)) 0 0 (MA g) := by
  refine Met.ofW (cc := cX3_isAhead) (maxL := 3) (ret := (some .boolean)) (by decide) rfl ?_
  intro p e s m args below meth c s₁ B hml hv
  obtain ⟨rfl, hW, hK⟩ := hv
  have hts := atoms_spec (ws := (ws_ yX3_isAhead cX3_isAhead 3 (some .boolean))) B.pre
  have hts : ∀ w ∈ lw_all, w.before _ s = true := fun w h => hts w (List.mem_cons_of_mem _ h)
  have hl := lv_entry ([.int a0, .int a1]) (n := 3) (Nat.le_of_ble_eq_true rfl)
  rw [lg_entry_eq]
  generalize (lg_sl ([.int a0, .int a1]) ++ List.replicate (3 - (lg_sl ([.int a0, .int a1])).length) Slot.unset).toArray = ls at hl ⊢
  exact kM_isAhead ⟨⟨B.exec, B.bytes, hml, findClass_of_methodNamed B.named, hts⟩, hK, B.returns, B.notSynchronized⟩ hO σ a0 a1 s.heap [] ls ⟨hW, va_S.rf⟩ hl h
def wM_split_J201 (post : Int32 → MS → Prop) (K111 : MS → Int32 → Int32 → Int32 → Int32 → Prop) (σ : MS) (x38 : Int32) (x39 : Int32) (x40 : Int32) (x41 : Int32) (x42 : Int32) (x43 : Int32) (x44 : Int32) : Prop := (∀ v47 : Int32, v47 = (if x38 < x43 then x39 else if x44 = 0 then x39 else x42) → ∀ v48 : Int32, v48 = (if x38 < x43 then x40 else if x44 = 0 then x40 else x41) → (∀ x50 : Int32, x50 = x41 + 1 → K111 σ x38 v47 v48 x50))
def wM_split_J196 (post : Int32 → MS → Prop) (K111 : MS → Int32 → Int32 → Int32 → Int32 → Prop) (σ : MS) (x32 : Int32) (x33 : Int32) (x34 : Int32) (x35 : Int32) (x36 : Int32) (x37 : Int32) : Prop := wM_split_J201 post K111 σ x32 x33 x34 x35 x36 x37 1
def wM_split_J200 (post : Int32 → MS → Prop) (K111 : MS → Int32 → Int32 → Int32 → Int32 → Prop) (σ : MS) (x52 : Int32) (x53 : Int32) (x54 : Int32) (x55 : Int32) (x56 : Int32) (x57 : Int32) : Prop := wM_split_J201 post K111 σ x52 x53 x54 x55 x56 x57 0
def wM_split_L111 (post : Int32 → MS → Prop) : Nat → MS → Int32 → Int32 → Int32 → Int32 → Prop
  | 0, _, _, _, _, _ => False
  | n + 1, σ, x16, x17, x18, x19 => (((1 : Int32) <<< ((σ 52 0) &&& 31)) ≤ x19 → post x17 σ) ∧ (¬ (((1 : Int32) <<< ((σ 52 0) &&& 31)) ≤ x19) → wM_families (fun r22 s21 => wM_many (fun r24 s23 => wM_strengthOf (fun r26 s25 => wM_many (fun r28 s27 => wM_strengthOf (fun r30 s29 => (r28 < r24 → wM_split_J196 post (wM_split_L111 post n) s29 x16 x17 x18 x19 r22 r24) ∧ (¬ (r28 < r24) → (¬ (r24 = r28) → wM_split_J200 post (wM_split_L111 post n) s29 x16 x17 x18 x19 r22 r24) ∧ (r24 = r28 → (r30 < r26 → wM_split_J196 post (wM_split_L111 post n) s29 x16 x17 x18 x19 r22 r24) ∧ (¬ (r30 < r26) → (¬ (r26 = r30) → wM_split_J200 post (wM_split_L111 post n) s29 x16 x17 x18 x19 r22 r24) ∧ (r26 = r30 → wM_isAhead (fun r61 s60 => (∀ v63 : Int32, v63 = (if r61 = 0 then 0 else 1) → (∀ v67 : Int32, v67 = (if x16 < r24 then x17 else if v63 = 0 then x17 else r22) → ∀ v68 : Int32, v68 = (if x16 < r24 then x18 else if v63 = 0 then x18 else x19) → (∀ x70 : Int32, x70 = x19 + 1 → wM_split_L111 post n s60 x16 v67 v68 x70)))) s29 x19 x18))))) s27 x17) s25 x17) s23 r22) s21 r22) σ x19)
def wM_split_L29 (post : Int32 → MS → Prop) : Nat → MS → Int32 → Int32 → Int32 → Prop
  | 0, _, _, _, _ => False
  | n + 1, σ, x8, x9, x10 => ((σ 18 0) ≤ x10 → ((σ 52 0) ≤ 9 → wM_areWhole (fun r14 s13 => (¬ (r14 = 0) → ∃ n71, wM_split_L111 post n71 s13 x9 0 0 0) ∧ (r14 = 0 → post (-2) s13)) σ x8) ∧ (¬ ((σ 52 0) ≤ 9) → post (-1) σ)) ∧ (¬ ((σ 18 0) ≤ x10) → (((((x8 >>> (x10 &&& 31)) &&& 1) = 1 → vp_in x10 16 ∧ (¬ (0 ≤ (σ 20 x10.toNatClampNeg)) → vp_in (σ 52 0) 16))) ∧ ∀ s76 : MS, s76 = (if ((x8 >>> (x10 &&& 31)) &&& 1) = 1 then if 0 ≤ (σ 20 x10.toNatClampNeg) then σ else (up2 ((up2 σ 51 (σ 52 0).toNatClampNeg x10)) 52 0 ((((up2 σ 51 (σ 52 0).toNatClampNeg x10)) 52 0) + 1)) else σ) → (∀ x79 : Int32, x79 = x10 + 1 → wM_split_L29 post n s76 x8 x9 x79)))
def wM_split (post : Int32 → MS → Prop) (σ : MS) (a1 : Int32) (a2 : Int32) : Prop := wM_arePersons (fun r2 s1 => (r2 = 0 → post (-1) s1) ∧ (¬ (r2 = 0) → wM_in (fun r5 s4 => (¬ (r5 = 0) → (∀ s7 : MS, s7 = up2 s4 52 0 0 → ∃ n80, wM_split_L29 post n80 s7 a1 a2 0)) ∧ (r5 = 0 → post (-1) s4)) s1 a2.toInt64 0 16)) σ a1
abbrev rM_split : Room := { frames := 2, cells := 0, slots := 0, locals := 46 }
set_option maxHeartbeats 4000000 in
set_option maxRecDepth 100000 in
theorem kM_split_J201 {p : Program} {l : Launch} {e : Env} {s : State} {m : MethodId} {args : Array Value} {below : List Frame} {meth : Method} {c : Code} {g : MG} {post : Int32 → MS → Prop} {K111 : MS → Int32 → Int32 → Int32 → Int32 → Prop} (F : gFx p s m c meth args cX3_split 12 RX3 (some .int) (mD g) (mcl g) (mty g)) (hO : MOK g) (hK111 : ∀ (σ : MS) (z0 : Int32) (z1 : Int32) (z2 : Int32) (z3 : Int32) (H : Heap) (locs : List Loc) (ls : Array Slot), gSt (MWd g) (MA g) s σ H locs → lv_has ls 12 [(0, .ref (mad g 62)), (2, .int z0), (3, .int z1), (4, .int z2), (5, .int z3)] → K111 σ z0 z1 z2 z3 → W p l e rM_split s m args below meth c H locs 0 0 (MQ below (va_Qi post (gB (MWd g)) (MA g)) args s 0 0 (MA g)) (F0 m 111 ls [])) : ∀ (σ : MS) (x38 : Int32) (x39 : Int32) (x40 : Int32) (x41 : Int32) (x42 : Int32) (x43 : Int32) (x44 : Int32) (H : Heap) (locs : List Loc) (ls : Array Slot), gSt (MWd g) (MA g) s σ H locs → lv_has ls 12 [(0, .ref (mad g 62)), (2, .int x38), (3, .int x39), (4, .int x40), (5, .int x41), (6, .int x42), (7, .int x43)] → wM_split_J201 post K111 σ x38 x39 x40 x41 x42 x43 x44 → W p l e rM_split s m args below meth c H locs 0 0 (MQ below (va_Qi post (gB (MWd g)) (MA g)) args s 0 0 (MA g)) (F0 m 201 ls [.int x44]) := by
  have hx := F.hx
  have hb := F.hb
  have hts := F.1.2.2.2.2
  have hown := F.1.2.2.2.1
  intro σ x38 x39 x40 x41 x42 x43 x44 H locs ls hS hl h
  rw [wM_split_J201] at h
  refine lv_istore (lv' := [(11, .int x44), (0, .ref (mad g 62)), (2, .int x38), (3, .int x39), (4, .int x40), (5, .int x41), (6, .int x42), (7, .int x43)]) hx hb dX3_split_201 hl (by decide) rfl (fun ls hl => ?_)
  refine lv_iload hx hb dX3_split_203 (lv_at hl 7 rfl) ?_
  refine lv_iload_n hx hb dX3_split_205 rfl (lv_at hl 2 rfl) ?_
  refine gcut (P := ∀ (v47 : Int32) (v48 : Int32) (H : Heap) (locs : List Loc) (ls : Array Slot), v47 = (if x38 < x43 then x39 else if x44 = 0 then x39 else x42) → v48 = (if x38 < x43 then x40 else if x44 = 0 then x40 else x41) → gSt (MWd g) (MA g) s σ H locs → lv_has ls 12 [(0, .ref (mad g 62)), (2, .int x38), (3, .int v47), (4, .int v48), (5, .int x41)] → W p l e rM_split s m args below meth c H locs 0 0 (MQ below (va_Qi post (gB (MWd g)) (MA g)) args s 0 0 (MA g)) (F0 m 221 ls [])) (fun v47 v48 H locs ls ev47 ev48 hS hl => ?_) (fun J49 => ?_)
  · have h := h v47 ev47 v48 ev48
    obtain ⟨x50, ex50⟩ : ∃ y : Int32, y = x41 + 1 := ⟨_, rfl⟩
    have h := h x50 ex50
    refine lv_iinc (v := x50) (lv' := [(5, .int x50), (0, .ref (mad g 62)), (2, .int x38), (3, .int v47), (4, .int v48)]) hx hb dX3_split_221 hl (k := 4) rfl (by rw [ex50]; rfl) (by decide) rfl (fun ls hl => ?_)
    refine lv_goto (tgt := 111) hx hb dX3_split_224 (by decide) ?_
    exact hK111 σ x38 v47 v48 x50 H locs ls hS (lv_sub hl [1, 2, 3, 4, 0] rfl) h
  · refine lv_icmp_gt (tgt := 221) hx hb dX3_split_206 (by decide) (fun c45 => ?_) (fun c45 => ?_)
    · exact J49 _ _ H locs ls (by first | with_reducible rfl | ((try rw [if_pos c45]); done)) (by first | with_reducible rfl | ((try rw [if_pos c45]); done)) hS (lv_sub hl [1, 2, 3, 4, 5] rfl)
    · refine lv_iload hx hb dX3_split_209 (lv_at hl 0 rfl) ?_
      refine lv_if_eq (tgt := 221) hx hb dX3_split_211 (by decide) (fun c46 => ?_) (fun c46 => ?_)
      · exact J49 _ _ H locs ls (by first | with_reducible rfl | ((try rw [if_neg c45]); (try rw [if_pos c46]); done)) (by first | with_reducible rfl | ((try rw [if_neg c45]); (try rw [if_pos c46]); done)) hS (lv_sub hl [1, 2, 3, 4, 5] rfl)
      · refine lv_iload hx hb dX3_split_214 (lv_at hl 6 rfl) ?_
        refine lv_istore_n (lv' := [(3, .int x42), (11, .int x44), (0, .ref (mad g 62)), (2, .int x38), (4, .int x40), (5, .int x41), (6, .int x42), (7, .int x43)]) hx hb dX3_split_216 rfl hl (by decide) rfl (fun ls hl => ?_)
        refine lv_iload hx hb dX3_split_217 (lv_at hl 5 rfl) ?_
        refine lv_istore (lv' := [(4, .int x41), (3, .int x42), (11, .int x44), (0, .ref (mad g 62)), (2, .int x38), (5, .int x41), (6, .int x42), (7, .int x43)]) hx hb dX3_split_219 hl (by decide) rfl (fun ls hl => ?_)
        exact J49 _ _ H locs ls (by first | with_reducible rfl | ((try rw [if_neg c45]); (try rw [if_neg c46]); done)) (by first | with_reducible rfl | ((try rw [if_neg c45]); (try rw [if_neg c46]); done)) hS (lv_sub hl [3, 4, 1, 0, 5] rfl)
set_option maxHeartbeats 4000000 in
set_option maxRecDepth 100000 in
theorem kM_split_J196 {p : Program} {l : Launch} {e : Env} {s : State} {m : MethodId} {args : Array Value} {below : List Frame} {meth : Method} {c : Code} {g : MG} {post : Int32 → MS → Prop} {K111 : MS → Int32 → Int32 → Int32 → Int32 → Prop} (F : gFx p s m c meth args cX3_split 12 RX3 (some .int) (mD g) (mcl g) (mty g)) (hO : MOK g) (hK111 : ∀ (σ : MS) (z0 : Int32) (z1 : Int32) (z2 : Int32) (z3 : Int32) (H : Heap) (locs : List Loc) (ls : Array Slot), gSt (MWd g) (MA g) s σ H locs → lv_has ls 12 [(0, .ref (mad g 62)), (2, .int z0), (3, .int z1), (4, .int z2), (5, .int z3)] → K111 σ z0 z1 z2 z3 → W p l e rM_split s m args below meth c H locs 0 0 (MQ below (va_Qi post (gB (MWd g)) (MA g)) args s 0 0 (MA g)) (F0 m 111 ls [])) : ∀ (σ : MS) (x32 : Int32) (x33 : Int32) (x34 : Int32) (x35 : Int32) (x36 : Int32) (x37 : Int32) (H : Heap) (locs : List Loc) (ls : Array Slot), gSt (MWd g) (MA g) s σ H locs → lv_has ls 12 [(0, .ref (mad g 62)), (2, .int x32), (3, .int x33), (4, .int x34), (5, .int x35), (6, .int x36), (7, .int x37)] → wM_split_J196 post K111 σ x32 x33 x34 x35 x36 x37 → W p l e rM_split s m args below meth c H locs 0 0 (MQ below (va_Qi post (gB (MWd g)) (MA g)) args s 0 0 (MA g)) (F0 m 196 ls []) := by
  have hx := F.hx
  have hb := F.hb
  have hts := F.1.2.2.2.2
  have hown := F.1.2.2.2.1
  intro σ x32 x33 x34 x35 x36 x37 H locs ls hS hl h
  rw [wM_split_J196] at h
  refine lv_iconst (v := 1) hx hb dX3_split_196 (by decide) ?_
  refine lv_goto (tgt := 201) hx hb dX3_split_197 (by decide) ?_
  exact (kM_split_J201 F hO hK111) σ x32 x33 x34 x35 x36 x37 1 H locs ls hS (lv_sub hl [0, 1, 2, 3, 4, 5, 6] rfl) h
set_option maxHeartbeats 4000000 in
set_option maxRecDepth 100000 in
theorem kM_split_J200 {p : Program} {l : Launch} {e : Env} {s : State} {m : MethodId} {args : Array Value} {below : List Frame} {meth : Method} {c : Code} {g : MG} {post : Int32 → MS → Prop} {K111 : MS → Int32 → Int32 → Int32 → Int32 → Prop} (F : gFx p s m c meth args cX3_split 12 RX3 (some .int) (mD g) (mcl g) (mty g)) (hO : MOK g) (hK111 : ∀ (σ : MS) (z0 : Int32) (z1 : Int32) (z2 : Int32) (z3 : Int32) (H : Heap) (locs : List Loc) (ls : Array Slot), gSt (MWd g) (MA g) s σ H locs → lv_has ls 12 [(0, .ref (mad g 62)), (2, .int z0), (3, .int z1), (4, .int z2), (5, .int z3)] → K111 σ z0 z1 z2 z3 → W p l e rM_split s m args below meth c H locs 0 0 (MQ below (va_Qi post (gB (MWd g)) (MA g)) args s 0 0 (MA g)) (F0 m 111 ls [])) : ∀ (σ : MS) (x52 : Int32) (x53 : Int32) (x54 : Int32) (x55 : Int32) (x56 : Int32) (x57 : Int32) (H : Heap) (locs : List Loc) (ls : Array Slot), gSt (MWd g) (MA g) s σ H locs → lv_has ls 12 [(0, .ref (mad g 62)), (2, .int x52), (3, .int x53), (4, .int x54), (5, .int x55), (6, .int x56), (7, .int x57)] → wM_split_J200 post K111 σ x52 x53 x54 x55 x56 x57 → W p l e rM_split s m args below meth c H locs 0 0 (MQ below (va_Qi post (gB (MWd g)) (MA g)) args s 0 0 (MA g)) (F0 m 200 ls []) := by
  have hx := F.hx
  have hb := F.hb
  have hts := F.1.2.2.2.2
  have hown := F.1.2.2.2.1
  intro σ x52 x53 x54 x55 x56 x57 H locs ls hS hl h
  rw [wM_split_J200] at h
  refine lv_iconst (v := 0) hx hb dX3_split_200 (by decide) ?_
  exact (kM_split_J201 F hO hK111) σ x52 x53 x54 x55 x56 x57 0 H locs ls hS (lv_sub hl [0, 1, 2, 3, 4, 5, 6] rfl) h
set_option maxHeartbeats 4000000 in
set_option maxRecDepth 100000 in
theorem kM_split_L111 {p : Program} {l : Launch} {e : Env} {s : State} {m : MethodId} {args : Array Value} {below : List Frame} {meth : Method} {c : Code} {g : MG} {post : Int32 → MS → Prop} (F : gFx p s m c meth args cX3_split 12 RX3 (some .int) (mD g) (mcl g) (mty g)) (hO : MOK g) : ∀ (n : Nat) (σ : MS) (x16 : Int32) (x17 : Int32) (x18 : Int32) (x19 : Int32) (H : Heap) (locs : List Loc) (ls : Array Slot), gSt (MWd g) (MA g) s σ H locs → lv_has ls 12 [(0, .ref (mad g 62)), (2, .int x16), (3, .int x17), (4, .int x18), (5, .int x19)] → wM_split_L111 post n σ x16 x17 x18 x19 → W p l e rM_split s m args below meth c H locs 0 0 (MQ below (va_Qi post (gB (MWd g)) (MA g)) args s 0 0 (MA g)) (F0 m 111 ls []) := by
  have hx := F.hx
  have hb := F.hb
  have hts := F.1.2.2.2.2
  have hown := F.1.2.2.2.1
  intro n
  induction n with
  | zero =>
    intro σ x16 x17 x18 x19 H locs ls hS hl h
    exact False.elim h
  | succ n ih =>
    intro σ x16 x17 x18 x19 H locs ls hS hl h
    rw [wM_split_L111] at h
    refine lv_iload hx hb dX3_split_111 (lv_at hl 4 rfl) ?_
    refine lv_iconst (v := 1) hx hb dX3_split_113 (by decide) ?_
    refine lv_aload_n hx hb dX3_split_114 rfl (lv_at hl 0 rfl) ?_
    refine m_geti F hO hS 52 (by decide) rfl q1449 dX3_split_115 ?_
    refine lv_ishl hx hb dX3_split_118 ?_
    refine lv_icmp_ge (tgt := 227) hx hb dX3_split_119 (by decide) (fun c20 => ?_) (fun c20 => ?_)
    · have h := h.1 c20
      refine lv_iload_n hx hb dX3_split_227 rfl (lv_at hl 2 rfl) ?_
      exact gw_iret F hS h dX3_split_228
    · have h := h.2 c20
      refine lv_aload_n hx hb dX3_split_122 rfl (lv_at hl 0 rfl) ?_
      refine lv_iload hx hb dX3_split_123 (lv_at hl 4 rfl) ?_
      refine gw_callVi (As := [.int x19]) (rest := []) F hS (tM_families l g hO σ x19 _ h) (cwV 1 hts (lw_V q1906 q1908 qs75 q90 q1909) rfl rfl rfl (by decide +kernel) ⟨Nat.le_of_ble_eq_true rfl, Nat.le_of_ble_eq_true rfl⟩) (m_rec F hO hS) rfl hl.1 rfl (Nat.le_of_ble_eq_true rfl) dX3_split_125 ⟨Nat.le_refl 0, Nat.le_refl 0⟩ (fun r22 s21 H locs h hS => ?_)
      refine lv_istore (lv' := [(6, .int r22), (0, .ref (mad g 62)), (2, .int x16), (3, .int x17), (4, .int x18), (5, .int x19)]) hx hb dX3_split_128 hl (by decide) rfl (fun ls hl => ?_)
      refine lv_iload hx hb dX3_split_130 (lv_at hl 0 rfl) ?_
      refine gw_callSi (As := [.int r22]) (rest := []) F hS (tM_many l g hO s21 r22 _ h) (va_cwS 1 hts (lw_S q1751 q1752 q90 q1753) rfl rfl rfl (by decide +kernel) ⟨Nat.le_of_ble_eq_true rfl, Nat.le_of_ble_eq_true rfl⟩) rfl hl.1 rfl (Nat.le_of_ble_eq_true rfl) dX3_split_132 ⟨Nat.le_refl 0, Nat.le_refl 0⟩ (fun r24 s23 H locs h hS => ?_)
      refine lv_istore (lv' := [(7, .int r24), (6, .int r22), (0, .ref (mad g 62)), (2, .int x16), (3, .int x17), (4, .int x18), (5, .int x19)]) hx hb dX3_split_135 hl (by decide) rfl (fun ls hl => ?_)
      refine lv_aload_n hx hb dX3_split_137 rfl (lv_at hl 2 rfl) ?_
      refine lv_iload hx hb dX3_split_138 (lv_at hl 1 rfl) ?_
      refine gw_callVi (As := [.int r22]) (rest := []) F hS (tM_strengthOf l g hO s23 r22 _ h) (cwV 1 hts (lw_V q1910 q1912 qs76 q90 q1913) rfl rfl rfl (by decide +kernel) ⟨Nat.le_of_ble_eq_true rfl, Nat.le_of_ble_eq_true rfl⟩) (m_rec F hO hS) rfl hl.1 rfl (Nat.le_of_ble_eq_true rfl) dX3_split_140 ⟨Nat.le_refl 0, Nat.le_refl 0⟩ (fun r26 s25 H locs h hS => ?_)
      refine lv_istore (lv' := [(8, .int r26), (7, .int r24), (6, .int r22), (0, .ref (mad g 62)), (2, .int x16), (3, .int x17), (4, .int x18), (5, .int x19)]) hx hb dX3_split_143 hl (by decide) rfl (fun ls hl => ?_)
      refine lv_iload_n hx hb dX3_split_145 rfl (lv_at hl 5 rfl) ?_
      refine gw_callSi (As := [.int x17]) (rest := []) F hS (tM_many l g hO s25 x17 _ h) (va_cwS 1 hts (lw_S q1751 q1752 q90 q1753) rfl rfl rfl (by decide +kernel) ⟨Nat.le_of_ble_eq_true rfl, Nat.le_of_ble_eq_true rfl⟩) rfl hl.1 rfl (Nat.le_of_ble_eq_true rfl) dX3_split_146 ⟨Nat.le_refl 0, Nat.le_refl 0⟩ (fun r28 s27 H locs h hS => ?_)
      refine lv_istore (lv' := [(9, .int r28), (8, .int r26), (7, .int r24), (6, .int r22), (0, .ref (mad g 62)), (2, .int x16), (3, .int x17), (4, .int x18), (5, .int x19)]) hx hb dX3_split_149 hl (by decide) rfl (fun ls hl => ?_)
      refine lv_aload_n hx hb dX3_split_151 rfl (lv_at hl 4 rfl) ?_
      refine lv_iload_n hx hb dX3_split_152 rfl (lv_at hl 6 rfl) ?_
      refine gw_callVi (As := [.int x17]) (rest := []) F hS (tM_strengthOf l g hO s27 x17 _ h) (cwV 1 hts (lw_V q1910 q1912 qs76 q90 q1913) rfl rfl rfl (by decide +kernel) ⟨Nat.le_of_ble_eq_true rfl, Nat.le_of_ble_eq_true rfl⟩) (m_rec F hO hS) rfl hl.1 rfl (Nat.le_of_ble_eq_true rfl) dX3_split_153 ⟨Nat.le_refl 0, Nat.le_refl 0⟩ (fun r30 s29 H locs h hS => ?_)
      refine lv_istore (lv' := [(10, .int r30), (9, .int r28), (8, .int r26), (7, .int r24), (6, .int r22), (0, .ref (mad g 62)), (2, .int x16), (3, .int x17), (4, .int x18), (5, .int x19)]) hx hb dX3_split_156 hl (by decide) rfl (fun ls hl => ?_)
      refine lv_iload hx hb dX3_split_158 (lv_at hl 3 rfl) ?_
      refine lv_iload hx hb dX3_split_160 (lv_at hl 1 rfl) ?_
      refine lv_icmp_gt (tgt := 196) hx hb dX3_split_162 (by decide) (fun c31 => ?_) (fun c31 => ?_)
      · have h := h.1 c31
        exact (kM_split_J196 F hO ih) s29 x16 x17 x18 x19 r22 r24 H locs ls hS (lv_sub hl [5, 6, 7, 8, 9, 4, 3] rfl) h
      · have h := h.2 c31
        refine lv_iload hx hb dX3_split_165 (lv_at hl 3 rfl) ?_
        refine lv_iload hx hb dX3_split_167 (lv_at hl 1 rfl) ?_
        refine lv_icmp_ne (tgt := 200) hx hb dX3_split_169 (by decide) (fun c51 => ?_) (fun c51 => ?_)
        · have h := h.1 c51
          exact (kM_split_J200 F hO ih) s29 x16 x17 x18 x19 r22 r24 H locs ls hS (lv_sub hl [5, 6, 7, 8, 9, 4, 3] rfl) h
        · have h := h.2 c51
          refine lv_iload hx hb dX3_split_172 (lv_at hl 2 rfl) ?_
          refine lv_iload hx hb dX3_split_174 (lv_at hl 0 rfl) ?_
          refine lv_icmp_gt (tgt := 196) hx hb dX3_split_176 (by decide) (fun c58 => ?_) (fun c58 => ?_)
          · have h := h.1 c58
            exact (kM_split_J196 F hO ih) s29 x16 x17 x18 x19 r22 r24 H locs ls hS (lv_sub hl [5, 6, 7, 8, 9, 4, 3] rfl) h
          · have h := h.2 c58
            refine lv_iload hx hb dX3_split_179 (lv_at hl 2 rfl) ?_
            refine lv_iload hx hb dX3_split_181 (lv_at hl 0 rfl) ?_
            refine lv_icmp_ne (tgt := 200) hx hb dX3_split_183 (by decide) (fun c59 => ?_) (fun c59 => ?_)
            · have h := h.1 c59
              exact (kM_split_J200 F hO ih) s29 x16 x17 x18 x19 r22 r24 H locs ls hS (lv_sub hl [5, 6, 7, 8, 9, 4, 3] rfl) h
            · have h := h.2 c59
              refine lv_iload hx hb dX3_split_186 (lv_at hl 9 rfl) ?_
              refine lv_iload hx hb dX3_split_188 (lv_at hl 8 rfl) ?_
              refine gw_callSi (As := [.int x19, .int x18]) (rest := []) F hS (tM_isAhead l g hO s29 x19 x18 _ h) (va_cwS 2 hts (lw_S q1914 q1915 q90 q1916) rfl rfl rfl (by decide +kernel) ⟨Nat.le_of_ble_eq_true rfl, Nat.le_of_ble_eq_true rfl⟩) rfl hl.1 rfl (Nat.le_of_ble_eq_true rfl) dX3_split_190 ⟨Nat.le_refl 0, Nat.le_refl 0⟩ (fun r61 s60 H locs h hS => ?_)
              obtain ⟨zr61, h⟩ := h
              refine gcut (P := ∀ (v63 : Int32) (H : Heap) (locs : List Loc) (ls : Array Slot), v63 = (if r61 = 0 then 0 else 1) → gSt (MWd g) (MA g) s s60 H locs → lv_has ls 12 [(0, .ref (mad g 62)), (2, .int x16), (3, .int x17), (4, .int x18), (5, .int x19), (6, .int r22), (7, .int r24)] → W p l e rM_split s m args below meth c H locs 0 0 (MQ below (va_Qi post (gB (MWd g)) (MA g)) args s 0 0 (MA g)) (F0 m 201 ls [.int v63])) (fun v63 H locs ls ev63 hS hl => ?_) (fun J64 => ?_)
              · have h := h v63 ev63
                refine lv_istore (lv' := [(11, .int v63), (0, .ref (mad g 62)), (2, .int x16), (3, .int x17), (4, .int x18), (5, .int x19), (6, .int r22), (7, .int r24)]) hx hb dX3_split_201 hl (by decide) rfl (fun ls hl => ?_)
                refine lv_iload hx hb dX3_split_203 (lv_at hl 7 rfl) ?_
                refine lv_iload_n hx hb dX3_split_205 rfl (lv_at hl 2 rfl) ?_
                refine gcut (P := ∀ (v67 : Int32) (v68 : Int32) (H : Heap) (locs : List Loc) (ls : Array Slot), v67 = (if x16 < r24 then x17 else if v63 = 0 then x17 else r22) → v68 = (if x16 < r24 then x18 else if v63 = 0 then x18 else x19) → gSt (MWd g) (MA g) s s60 H locs → lv_has ls 12 [(0, .ref (mad g 62)), (2, .int x16), (3, .int v67), (4, .int v68), (5, .int x19)] → W p l e rM_split s m args below meth c H locs 0 0 (MQ below (va_Qi post (gB (MWd g)) (MA g)) args s 0 0 (MA g)) (F0 m 221 ls [])) (fun v67 v68 H locs ls ev67 ev68 hS hl => ?_) (fun J69 => ?_)
                · have h := h v67 ev67 v68 ev68
                  obtain ⟨x70, ex70⟩ : ∃ y : Int32, y = x19 + 1 := ⟨_, rfl⟩
                  have h := h x70 ex70
                  refine lv_iinc (v := x70) (lv' := [(5, .int x70), (0, .ref (mad g 62)), (2, .int x16), (3, .int v67), (4, .int v68)]) hx hb dX3_split_221 hl (k := 4) rfl (by rw [ex70]; rfl) (by decide) rfl (fun ls hl => ?_)
                  refine lv_goto (tgt := 111) hx hb dX3_split_224 (by decide) ?_
                  exact ih s60 x16 v67 v68 x70 H locs ls hS (lv_sub hl [1, 2, 3, 4, 0] rfl) h
                · refine lv_icmp_gt (tgt := 221) hx hb dX3_split_206 (by decide) (fun c65 => ?_) (fun c65 => ?_)
                  · exact J69 _ _ H locs ls (by first | with_reducible rfl | ((try rw [if_pos c65]); done)) (by first | with_reducible rfl | ((try rw [if_pos c65]); done)) hS (lv_sub hl [1, 2, 3, 4, 5] rfl)
                  · refine lv_iload hx hb dX3_split_209 (lv_at hl 0 rfl) ?_
                    refine lv_if_eq (tgt := 221) hx hb dX3_split_211 (by decide) (fun c66 => ?_) (fun c66 => ?_)
                    · exact J69 _ _ H locs ls (by first | with_reducible rfl | ((try rw [if_neg c65]); (try rw [if_pos c66]); done)) (by first | with_reducible rfl | ((try rw [if_neg c65]); (try rw [if_pos c66]); done)) hS (lv_sub hl [1, 2, 3, 4, 5] rfl)
                    · refine lv_iload hx hb dX3_split_214 (lv_at hl 6 rfl) ?_
                      refine lv_istore_n (lv' := [(3, .int r22), (11, .int v63), (0, .ref (mad g 62)), (2, .int x16), (4, .int x18), (5, .int x19), (6, .int r22), (7, .int r24)]) hx hb dX3_split_216 rfl hl (by decide) rfl (fun ls hl => ?_)
                      refine lv_iload hx hb dX3_split_217 (lv_at hl 5 rfl) ?_
                      refine lv_istore (lv' := [(4, .int x19), (3, .int r22), (11, .int v63), (0, .ref (mad g 62)), (2, .int x16), (5, .int x19), (6, .int r22), (7, .int r24)]) hx hb dX3_split_219 hl (by decide) rfl (fun ls hl => ?_)
                      exact J69 _ _ H locs ls (by first | with_reducible rfl | ((try rw [if_neg c65]); (try rw [if_neg c66]); done)) (by first | with_reducible rfl | ((try rw [if_neg c65]); (try rw [if_neg c66]); done)) hS (lv_sub hl [3, 4, 1, 0, 5] rfl)
              · refine lv_if_eq (tgt := 200) hx hb dX3_split_193 (by decide) (fun c62 => ?_) (fun c62 => ?_)
                · refine lv_iconst (v := 0) hx hb dX3_split_200 (by decide) ?_
                  exact J64 _ H locs ls (by first | with_reducible rfl | ((try rw [if_pos c62]); done)) hS (lv_sub hl [5, 6, 7, 8, 9, 4, 3] rfl)
                · refine lv_iconst (v := 1) hx hb dX3_split_196 (by decide) ?_
                  refine lv_goto (tgt := 201) hx hb dX3_split_197 (by decide) ?_
                  exact J64 _ H locs ls (by first | with_reducible rfl | ((try rw [if_neg c62]); done)) hS (lv_sub hl [5, 6, 7, 8, 9, 4, 3] rfl)
set_option maxHeartbeats 4000000 in
set_option maxRecDepth 100000 in
theorem kM_split_L29 {p : Program} {l : Launch} {e : Env} {s : State} {m : MethodId} {args : Array Value} {below : List Frame} {meth : Method} {c : Code} {g : MG} {post : Int32 → MS → Prop} (F : gFx p s m c meth args cX3_split 12 RX3 (some .int) (mD g) (mcl g) (mty g)) (hO : MOK g) : ∀ (n : Nat) (σ : MS) (x8 : Int32) (x9 : Int32) (x10 : Int32) (H : Heap) (locs : List Loc) (ls : Array Slot), gSt (MWd g) (MA g) s σ H locs → lv_has ls 12 [(0, .ref (mad g 62)), (1, .int x8), (2, .int x9), (3, .int x10)] → wM_split_L29 post n σ x8 x9 x10 → W p l e rM_split s m args below meth c H locs 0 0 (MQ below (va_Qi post (gB (MWd g)) (MA g)) args s 0 0 (MA g)) (F0 m 29 ls []) := by
  have hx := F.hx
  have hb := F.hb
  have hts := F.1.2.2.2.2
  have hown := F.1.2.2.2.1
  intro n
  induction n with
  | zero =>
    intro σ x8 x9 x10 H locs ls hS hl h
    exact False.elim h
  | succ n ih =>
    intro σ x8 x9 x10 H locs ls hS hl h
    rw [wM_split_L29] at h
    refine lv_iload_n hx hb dX3_split_29 rfl (lv_at hl 3 rfl) ?_
    refine lv_aload_n hx hb dX3_split_30 rfl (lv_at hl 0 rfl) ?_
    refine m_geti F hO hS 18 (by decide) rfl q1415 dX3_split_31 ?_
    refine lv_icmp_ge (tgt := 81) hx hb dX3_split_34 (by decide) (fun c11 => ?_) (fun c11 => ?_)
    · have h := h.1 c11
      refine lv_aload_n hx hb dX3_split_81 rfl (lv_at hl 0 rfl) ?_
      refine m_geti F hO hS 52 (by decide) rfl q1449 dX3_split_82 ?_
      refine lv_bipush (v := 9) hx hb dX3_split_85 (by decide) ?_
      refine lv_icmp_le (tgt := 92) hx hb dX3_split_87 (by decide) (fun c12 => ?_) (fun c12 => ?_)
      · have h := h.1 c12
        refine lv_aload_n hx hb dX3_split_92 rfl (lv_at hl 0 rfl) ?_
        refine lv_iload_n hx hb dX3_split_93 rfl (lv_at hl 1 rfl) ?_
        refine gw_callVi (As := [.int x8]) (rest := []) F hS (tM_areWhole l g hO σ x8 _ h) (cwV 1 hts (lw_V q1890 q1892 qs73 q90 q1893) rfl rfl rfl (by decide +kernel) ⟨Nat.le_of_ble_eq_true rfl, Nat.le_of_ble_eq_true rfl⟩) (m_rec F hO hS) rfl hl.1 rfl (Nat.le_of_ble_eq_true rfl) dX3_split_94 ⟨Nat.le_refl 0, Nat.le_refl 0⟩ (fun r14 s13 H locs h hS => ?_)
        obtain ⟨zr14, h⟩ := h
        refine lv_if_ne (tgt := 103) hx hb dX3_split_97 (by decide) (fun c15 => ?_) (fun c15 => ?_)
        · have h := h.1 c15
          refine lv_iconst (v := 0) hx hb dX3_split_103 (by decide) ?_
          refine lv_istore_n (lv' := [(3, .int 0), (0, .ref (mad g 62)), (1, .int x8), (2, .int x9)]) hx hb dX3_split_104 rfl hl (by decide) rfl (fun ls hl => ?_)
          refine lv_iconst (v := 0) hx hb dX3_split_105 (by decide) ?_
          refine lv_istore (lv' := [(4, .int 0), (3, .int 0), (0, .ref (mad g 62)), (1, .int x8), (2, .int x9)]) hx hb dX3_split_106 hl (by decide) rfl (fun ls hl => ?_)
          refine lv_iconst (v := 0) hx hb dX3_split_108 (by decide) ?_
          refine lv_istore (lv' := [(5, .int 0), (4, .int 0), (3, .int 0), (0, .ref (mad g 62)), (1, .int x8), (2, .int x9)]) hx hb dX3_split_109 hl (by decide) rfl (fun ls hl => ?_)
          obtain ⟨n71, h⟩ := h
          exact (kM_split_L111 F hO n71) s13 x9 0 0 0 H locs ls hS (lv_sub hl [3, 5, 2, 1, 0] rfl) h
        · have h := h.2 c15
          refine lv_bipush (v := (-2)) hx hb dX3_split_100 (by decide) ?_
          exact gw_iret F hS h dX3_split_102
      · have h := h.2 c12
        refine lv_iconst (v := (-1)) hx hb dX3_split_90 (by decide) ?_
        exact gw_iret F hS h dX3_split_91
    · have h := h.2 c11
      refine lv_iload_n hx hb dX3_split_37 rfl (lv_at hl 1 rfl) ?_
      refine lv_iload_n hx hb dX3_split_38 rfl (lv_at hl 3 rfl) ?_
      refine lv_ishr hx hb dX3_split_39 ?_
      refine lv_iconst (v := 1) hx hb dX3_split_40 (by decide) ?_
      refine lv_iand hx hb dX3_split_41 ?_
      refine lv_iconst (v := 1) hx hb dX3_split_42 (by decide) ?_
      obtain ⟨b77, h⟩ := h
      refine gcut (P := ∀ (s76 : MS) (H : Heap) (locs : List Loc) (ls : Array Slot), s76 = (if ((x8 >>> (x10 &&& 31)) &&& 1) = 1 then if 0 ≤ (σ 20 x10.toNatClampNeg) then σ else (up2 ((up2 σ 51 (σ 52 0).toNatClampNeg x10)) 52 0 ((((up2 σ 51 (σ 52 0).toNatClampNeg x10)) 52 0) + 1)) else σ) → gSt (MWd g) (MA g) s s76 H locs → lv_has ls 12 [(0, .ref (mad g 62)), (1, .int x8), (2, .int x9), (3, .int x10)] → W p l e rM_split s m args below meth c H locs 0 0 (MQ below (va_Qi post (gB (MWd g)) (MA g)) args s 0 0 (MA g)) (F0 m 75 ls [])) (fun s76 H locs ls es76 hS hl => ?_) (fun J78 => ?_)
      · have h := h s76 es76
        obtain ⟨x79, ex79⟩ : ∃ y : Int32, y = x10 + 1 := ⟨_, rfl⟩
        have h := h x79 ex79
        refine lv_iinc (v := x79) (lv' := [(3, .int x79), (0, .ref (mad g 62)), (1, .int x8), (2, .int x9)]) hx hb dX3_split_75 hl (k := 3) rfl (by rw [ex79]; rfl) (by decide) rfl (fun ls hl => ?_)
        refine lv_goto (tgt := 29) hx hb dX3_split_78 (by decide) ?_
        exact ih s76 x8 x9 x79 H locs ls hS (lv_sub hl [1, 2, 3, 0] rfl) h
      · refine lv_icmp_ne (tgt := 75) hx hb dX3_split_43 (by decide) (fun c72 => ?_) (fun c72 => ?_)
        · exact J78 _ H locs ls (by first | with_reducible rfl | ((try rw [if_neg c72]); done)) hS (lv_sub hl [0, 1, 2, 3] rfl)
        · refine lv_aload_n hx hb dX3_split_46 rfl (lv_at hl 0 rfl) ?_
          refine m_geta F hO hS 20 (by decide) rfl q1417 dX3_split_47 ?_
          refine lv_iload_n hx hb dX3_split_50 rfl (lv_at hl 3 rfl) ?_
          refine m_iald F hS 20 16 rfl rfl ((b77 c72).1) dX3_split_51 ?_
          refine lv_if_ge (tgt := 75) hx hb dX3_split_52 (by decide) (fun c73 => ?_) (fun c73 => ?_)
          · exact J78 _ H locs ls (by first | with_reducible rfl | ((try rw [if_pos c72]); (try rw [if_pos c73]); done)) hS (lv_sub hl [0, 1, 2, 3] rfl)
          · refine lv_aload_n hx hb dX3_split_55 rfl (lv_at hl 0 rfl) ?_
            refine m_geta F hO hS 51 (by decide) rfl q1448 dX3_split_56 ?_
            refine lv_aload_n hx hb dX3_split_59 rfl (lv_at hl 0 rfl) ?_
            refine m_geti F hO hS 52 (by decide) rfl q1449 dX3_split_60 ?_
            refine lv_iload_n hx hb dX3_split_63 rfl (lv_at hl 3 rfl) ?_
            refine m_iast F hO hS 51 40 rfl rfl (((b77 c72).2 c73)) dX3_split_64 (fun s74 es74 H locs hS => ?_)
            subst es74
            refine lv_aload_n hx hb dX3_split_65 rfl (lv_at hl 0 rfl) ?_
            refine lv_dup hx hb dX3_split_66 rfl ?_
            refine m_geti F hO hS 52 (by decide) rfl q1449 dX3_split_67 ?_
            refine lv_iconst (v := 1) hx hb dX3_split_70 (by decide) ?_
            refine lv_iadd hx hb dX3_split_71 ?_
            refine m_puti F hO hS 52 (by decide) rfl q1449 rfl (by decide +kernel) dX3_split_72 (fun s75 es75 H locs hS => ?_)
            subst es75
            exact J78 _ H locs ls (by first | with_reducible rfl | ((try rw [if_pos c72]); (try rw [if_neg c73]); done)) hS (lv_sub hl [0, 1, 2, 3] rfl)
set_option maxHeartbeats 4000000 in
set_option maxRecDepth 100000 in
theorem kM_split {p : Program} {l : Launch} {e : Env} {s : State} {m : MethodId} {args : Array Value} {below : List Frame} {meth : Method} {c : Code} {g : MG} {post : Int32 → MS → Prop} (F : gFx p s m c meth args cX3_split 12 RX3 (some .int) (mD g) (mcl g) (mty g)) (hO : MOK g) (σ : MS) (a1 : Int32) (a2 : Int32) (H : Heap) (locs : List Loc) (ls : Array Slot) (hS : gSt (MWd g) (MA g) s σ H locs) (hl : lv_has ls 12 [(0, .ref (mad g 62)), (1, .int a1), (2, .int a2)]) (h : wM_split post σ a1 a2) : W p l e rM_split s m args below meth c H locs 0 0 (MQ below (va_Qi post (gB (MWd g)) (MA g)) args s 0 0 (MA g)) (F0 m 0 ls []) := by
  have hx := F.hx
  have hb := F.hb
  have hts := F.1.2.2.2.2
  have hown := F.1.2.2.2.1
  rw [wM_split] at h
  refine lv_aload_n hx hb dX3_split_0 rfl (lv_at hl 0 rfl) ?_
  refine lv_iload_n hx hb dX3_split_1 rfl (lv_at hl 1 rfl) ?_
  refine gw_callVi (As := [.int a1]) (rest := []) F hS (tM_arePersons l g hO σ a1 _ h) (cwV 1 hts (lw_V q1791 q1793 qs60 q90 q1794) rfl rfl rfl (by decide +kernel) ⟨Nat.le_of_ble_eq_true rfl, Nat.le_of_ble_eq_true rfl⟩) (m_rec F hO hS) rfl hl.1 rfl (Nat.le_of_ble_eq_true rfl) dX3_split_2 ⟨Nat.le_refl 0, Nat.le_refl 0⟩ (fun r2 s1 H locs h hS => ?_)
  obtain ⟨zr2, h⟩ := h
  refine lv_if_eq (tgt := 20) hx hb dX3_split_5 (by decide) (fun c3 => ?_) (fun c3 => ?_)
  · have h := h.1 c3
    refine lv_iconst (v := (-1)) hx hb dX3_split_20 (by decide) ?_
    exact gw_iret F hS h dX3_split_21
  · have h := h.2 c3
    refine lv_iload_n hx hb dX3_split_8 rfl (lv_at hl 2 rfl) ?_
    refine lv_i2l hx hb dX3_split_9 rfl ?_
    refine lv_lconst (v := 0) hx hb dX3_split_10 (by decide) ?_
    refine lv_ldc2 (v := 16) hx hb hown (hts _ q1905) dX3_split_11 ?_
    refine gw_callSi (As := [.long a2.toInt64, .long 0, .long 16]) (rest := []) F hS (tM_in l g hO s1 a2.toInt64 0 16 _ h) (va_cwS 3 hts (lw_S q1593 q1594 q90 q1595) rfl rfl rfl (by decide +kernel) ⟨Nat.le_of_ble_eq_true rfl, Nat.le_of_ble_eq_true rfl⟩) rfl hl.1 rfl (Nat.le_of_ble_eq_true rfl) dX3_split_14 ⟨Nat.le_refl 0, Nat.le_refl 0⟩ (fun r5 s4 H locs h hS => ?_)
    obtain ⟨zr5, h⟩ := h
    refine lv_if_ne (tgt := 22) hx hb dX3_split_17 (by decide) (fun c6 => ?_) (fun c6 => ?_)
    · have h := h.1 c6
      refine lv_aload_n hx hb dX3_split_22 rfl (lv_at hl 0 rfl) ?_
      refine lv_iconst (v := 0) hx hb dX3_split_23 (by decide) ?_
      refine m_puti F hO hS 52 (by decide) rfl q1449 rfl (by decide +kernel) dX3_split_24 (fun s7 es7 H locs hS => ?_)
      have h := h s7 es7
      refine lv_iconst (v := 0) hx hb dX3_split_27 (by decide) ?_
      refine lv_istore_n (lv' := [(3, .int 0), (0, .ref (mad g 62)), (1, .int a1), (2, .int a2)]) hx hb dX3_split_28 rfl hl (by decide) rfl (fun ls hl => ?_)
      obtain ⟨n80, h⟩ := h
      exact (kM_split_L29 F hO n80) s7 a1 a2 0 H locs ls hS (lv_sub hl [1, 2, 3, 0] rfl) h
    · have h := h.2 c6
      refine lv_iconst (v := (-1)) hx hb dX3_split_20 (by decide) ?_
      exact gw_iret F hS h dX3_split_21
set_option maxHeartbeats 4000000 in
set_option maxRecDepth 100000 in
theorem tM_split (l : Launch) (g : MG) (hO : MOK g) (σ : MS) (a1 : Int32) (a2 : Int32) (post : Int32 → MS → Prop) (h : wM_split post σ a1 a2) : Met l yX3_split (ws_ yX3_split cX3_split 12 (some .int)) rM_split (va_Pc [.ref (mad g 62), .int a1, .int a2] (gPre (MWd g) (mD g) (mcl g) (mty g) σ)) (va_Qi post (gB (MWd g)) (MA g)) 0 0 (MA g) := by
  refine Met.ofW (cc := cX3_split) (maxL := 12) (ret := (some .int)) (by decide) rfl ?_
  intro p e s m args below meth c s₁ B hml hv
  obtain ⟨rfl, hW, hK⟩ := hv
  have hts := atoms_spec (ws := (ws_ yX3_split cX3_split 12 (some .int))) B.pre
  have hts : ∀ w ∈ lw_all, w.before _ s = true := fun w h => hts w (List.mem_cons_of_mem _ h)
  have hl := lv_entry ([.ref (mad g 62), .int a1, .int a2]) (n := 12) (Nat.le_of_ble_eq_true rfl)
  rw [lg_entry_eq]
  generalize (lg_sl ([.ref (mad g 62), .int a1, .int a2]) ++ List.replicate (12 - (lg_sl ([.ref (mad g 62), .int a1, .int a2])).length) Slot.unset).toArray = ls at hl ⊢
  exact kM_split ⟨⟨B.exec, B.bytes, hml, findClass_of_methodNamed B.named, hts⟩, hK, B.returns, B.notSynchronized⟩ hO σ a1 a2 s.heap [] ls ⟨hW, va_S.rf⟩ hl h
def wM_turnedFrom_J110 (post : Int32 → MS → Prop) (K40 : MS → Int32 → Int32 → Int32 → Int32 → Int32 → Prop) (σ : MS) (x28 : Int32) (x29 : Int32) (x30 : Int32) (x31 : Int32) (x32 : Int32) (x33 : Int32) : Prop := (∀ v35 : Int32, v35 = (if x33 = 0 then ((1 : Int32) <<< (x32 &&& 31)) ^^^ (-1) else (-1)) → (∀ x37 : Int32, x37 = x29 &&& v35 → ∀ x38 : Int32, x38 = x32 + 1 → K40 σ x28 x37 x30 x31 x38))
def wM_turnedFrom_J109 (post : Int32 → MS → Prop) (K40 : MS → Int32 → Int32 → Int32 → Int32 → Int32 → Prop) (σ : MS) (x23 : Int32) (x24 : Int32) (x25 : Int32) (x26 : Int32) (x27 : Int32) : Prop := wM_turnedFrom_J110 post K40 σ x23 x24 x25 x26 x27 0
def wM_turnedFrom_L40 (post : Int32 → MS → Prop) (K136 : MS → Int32 → Int32 → Int32 → Int32 → Prop) : Nat → MS → Int32 → Int32 → Int32 → Int32 → Int32 → Prop
  | 0, _, _, _, _, _, _ => False
  | n + 1, σ, x14, x15, x16, x17, x18 => ((σ 1 0) ≤ x18 → K136 σ x14 x15 x16 x17) ∧ (¬ ((σ 1 0) ≤ x18) → wM_isHouse (fun r21 s20 => (r21 = 0 → wM_turnedFrom_J109 post (wM_turnedFrom_L40 post K136 n) s20 x14 x15 x16 x17 x18) ∧ (¬ (r21 = 0) → (vp_in x17 40 ∧ wM_isHouse (fun r41 s40 => (((¬ (r41 = 0) → vp_in x17 40 ∧ (¬ (x18 = (s40 31 x17.toNatClampNeg)) → vp_in x18 16 ∧ vp_in x17 40))) ∧ ∀ v45 : Int32, v45 = (if r41 = 0 then 0 else if x18 = (s40 31 x17.toNatClampNeg) then 1 else if (((s40 8 x18.toNatClampNeg) >>> ((s40 31 x17.toNatClampNeg) &&& 31)) &&& 1) = 1 then 1 else 0) → (∀ v49 : Int32, v49 = (if v45 = 0 then ((1 : Int32) <<< (x18 &&& 31)) ^^^ (-1) else (-1)) → (∀ x51 : Int32, x51 = x15 &&& v49 → ∀ x52 : Int32, x52 = x18 + 1 → wM_turnedFrom_L40 post K136 n s40 x14 x51 x16 x17 x52)))) s20 (s20 31 x17.toNatClampNeg)))) σ x18)
def wM_turnedFrom_L14 (post : Int32 → MS → Prop) : Nat → MS → Int32 → Int32 → Int32 → Int32 → Prop
  | 0, _, _, _, _, _ => False
  | n + 1, σ, x2, x3, x4, x5 => ((σ 30 0) ≤ x5 → (∀ v8 : Int32, v8 = (if x4 = 0 then (-4) else x3) → post v8 σ)) ∧ (¬ ((σ 30 0) ≤ x5) → (vp_in x5 40 ∧ ((σ 32 x5.toNatClampNeg) < x2 → (∀ x12 : Int32, x12 = x5 + 1 → wM_turnedFrom_L14 post n σ x2 x3 x4 x12)) ∧ (¬ ((σ 32 x5.toNatClampNeg) < x2) → (∀ x13 : Int32, x13 = x4 + 1 → ∃ n53, wM_turnedFrom_L40 post (fun σ54 x55 x56 x57 x58 => (∀ x59 : Int32, x59 = x58 + 1 → wM_turnedFrom_L14 post n σ54 x55 x56 x57 x59)) n53 σ x2 x3 x13 x5 0))))
def wM_turnedFrom (post : Int32 → MS → Prop) (σ : MS) (a1 : Int32) : Prop := (∀ x1 : Int32, x1 = ((1 : Int32) <<< ((σ 1 0) &&& 31)) - 1 → ∃ n60, wM_turnedFrom_L14 post n60 σ a1 x1 0 0)
abbrev rM_turnedFrom : Room := { frames := 1, cells := 0, slots := 0, locals := 21 }
set_option maxHeartbeats 4000000 in
set_option maxRecDepth 100000 in
theorem kM_turnedFrom_J110 {p : Program} {l : Launch} {e : Env} {s : State} {m : MethodId} {args : Array Value} {below : List Frame} {meth : Method} {c : Code} {g : MG} {post : Int32 → MS → Prop} {K40 : MS → Int32 → Int32 → Int32 → Int32 → Int32 → Prop} (F : gFx p s m c meth args cX3_turnedFrom 7 RX3 (some .int) (mD g) (mcl g) (mty g)) (hO : MOK g) (hK40 : ∀ (σ : MS) (z0 : Int32) (z1 : Int32) (z2 : Int32) (z3 : Int32) (z4 : Int32) (H : Heap) (locs : List Loc) (ls : Array Slot), gSt (MWd g) (MA g) s σ H locs → lv_has ls 7 [(0, .ref (mad g 62)), (1, .int z0), (2, .int z1), (3, .int z2), (4, .int z3), (5, .int z4)] → K40 σ z0 z1 z2 z3 z4 → W p l e rM_turnedFrom s m args below meth c H locs 0 0 (MQ below (va_Qi post (gB (MWd g)) (MA g)) args s 0 0 (MA g)) (F0 m 40 ls [])) : ∀ (σ : MS) (x28 : Int32) (x29 : Int32) (x30 : Int32) (x31 : Int32) (x32 : Int32) (x33 : Int32) (H : Heap) (locs : List Loc) (ls : Array Slot), gSt (MWd g) (MA g) s σ H locs → lv_has ls 7 [(0, .ref (mad g 62)), (1, .int x28), (2, .int x29), (3, .int x30), (4, .int x31), (5, .int x32)] → wM_turnedFrom_J110 post K40 σ x28 x29 x30 x31 x32 x33 → W p l e rM_turnedFrom s m args below meth c H locs 0 0 (MQ below (va_Qi post (gB (MWd g)) (MA g)) args s 0 0 (MA g)) (F0 m 110 ls [.int x33]) := by
  have hx := F.hx
  have hb := F.hb
  have hts := F.1.2.2.2.2
  have hown := F.1.2.2.2.1
  intro σ x28 x29 x30 x31 x32 x33 H locs ls hS hl h
  rw [wM_turnedFrom_J110] at h
  refine lv_istore (lv' := [(6, .int x33), (0, .ref (mad g 62)), (1, .int x28), (2, .int x29), (3, .int x30), (4, .int x31), (5, .int x32)]) hx hb dX3_turnedFrom_110 hl (by decide) rfl (fun ls hl => ?_)
  refine lv_iload_n hx hb dX3_turnedFrom_112 rfl (lv_at hl 3 rfl) ?_
  refine lv_iload hx hb dX3_turnedFrom_113 (lv_at hl 0 rfl) ?_
  refine gcut (P := ∀ (v35 : Int32) (H : Heap) (locs : List Loc) (ls : Array Slot), v35 = (if x33 = 0 then ((1 : Int32) <<< (x32 &&& 31)) ^^^ (-1) else (-1)) → gSt (MWd g) (MA g) s σ H locs → lv_has ls 7 [(0, .ref (mad g 62)), (1, .int x28), (3, .int x30), (4, .int x31), (5, .int x32)] → W p l e rM_turnedFrom s m args below meth c H locs 0 0 (MQ below (va_Qi post (gB (MWd g)) (MA g)) args s 0 0 (MA g)) (F0 m 128 ls [.int v35, .int x29])) (fun v35 H locs ls ev35 hS hl => ?_) (fun J36 => ?_)
  · have h := h v35 ev35
    refine lv_iand hx hb dX3_turnedFrom_128 ?_
    refine lv_topi (fun x37 ex37 => ?_)
    have h := h x37 ex37
    refine lv_istore_n (lv' := [(2, .int x37), (0, .ref (mad g 62)), (1, .int x28), (3, .int x30), (4, .int x31), (5, .int x32)]) hx hb dX3_turnedFrom_129 rfl hl (by decide) rfl (fun ls hl => ?_)
    obtain ⟨x38, ex38⟩ : ∃ y : Int32, y = x32 + 1 := ⟨_, rfl⟩
    have h := h x38 ex38
    refine lv_iinc (v := x38) (lv' := [(5, .int x38), (2, .int x37), (0, .ref (mad g 62)), (1, .int x28), (3, .int x30), (4, .int x31)]) hx hb dX3_turnedFrom_130 hl (k := 5) rfl (by rw [ex38]; rfl) (by decide) rfl (fun ls hl => ?_)
    refine lv_goto (tgt := 40) hx hb dX3_turnedFrom_133 (by decide) ?_
    exact hK40 σ x28 x37 x30 x31 x38 H locs ls hS (lv_sub hl [2, 3, 1, 4, 5, 0] rfl) h
  · refine lv_if_eq (tgt := 122) hx hb dX3_turnedFrom_115 (by decide) (fun c34 => ?_) (fun c34 => ?_)
    · refine lv_iconst (v := 1) hx hb dX3_turnedFrom_122 (by decide) ?_
      refine lv_iload hx hb dX3_turnedFrom_123 (lv_at hl 6 rfl) ?_
      refine lv_ishl hx hb dX3_turnedFrom_125 ?_
      refine lv_iconst (v := (-1)) hx hb dX3_turnedFrom_126 (by decide) ?_
      refine lv_ixor hx hb dX3_turnedFrom_127 ?_
      exact J36 _ H locs ls (by first | with_reducible rfl | ((try rw [if_pos c34]); done)) hS (lv_sub hl [1, 2, 4, 5, 6] rfl)
    · refine lv_iconst (v := (-1)) hx hb dX3_turnedFrom_118 (by decide) ?_
      refine lv_goto (tgt := 128) hx hb dX3_turnedFrom_119 (by decide) ?_
      exact J36 _ H locs ls (by first | with_reducible rfl | ((try rw [if_neg c34]); done)) hS (lv_sub hl [1, 2, 4, 5, 6] rfl)
set_option maxHeartbeats 4000000 in
set_option maxRecDepth 100000 in
theorem kM_turnedFrom_J109 {p : Program} {l : Launch} {e : Env} {s : State} {m : MethodId} {args : Array Value} {below : List Frame} {meth : Method} {c : Code} {g : MG} {post : Int32 → MS → Prop} {K40 : MS → Int32 → Int32 → Int32 → Int32 → Int32 → Prop} (F : gFx p s m c meth args cX3_turnedFrom 7 RX3 (some .int) (mD g) (mcl g) (mty g)) (hO : MOK g) (hK40 : ∀ (σ : MS) (z0 : Int32) (z1 : Int32) (z2 : Int32) (z3 : Int32) (z4 : Int32) (H : Heap) (locs : List Loc) (ls : Array Slot), gSt (MWd g) (MA g) s σ H locs → lv_has ls 7 [(0, .ref (mad g 62)), (1, .int z0), (2, .int z1), (3, .int z2), (4, .int z3), (5, .int z4)] → K40 σ z0 z1 z2 z3 z4 → W p l e rM_turnedFrom s m args below meth c H locs 0 0 (MQ below (va_Qi post (gB (MWd g)) (MA g)) args s 0 0 (MA g)) (F0 m 40 ls [])) : ∀ (σ : MS) (x23 : Int32) (x24 : Int32) (x25 : Int32) (x26 : Int32) (x27 : Int32) (H : Heap) (locs : List Loc) (ls : Array Slot), gSt (MWd g) (MA g) s σ H locs → lv_has ls 7 [(0, .ref (mad g 62)), (1, .int x23), (2, .int x24), (3, .int x25), (4, .int x26), (5, .int x27)] → wM_turnedFrom_J109 post K40 σ x23 x24 x25 x26 x27 → W p l e rM_turnedFrom s m args below meth c H locs 0 0 (MQ below (va_Qi post (gB (MWd g)) (MA g)) args s 0 0 (MA g)) (F0 m 109 ls []) := by
  have hx := F.hx
  have hb := F.hb
  have hts := F.1.2.2.2.2
  have hown := F.1.2.2.2.1
  intro σ x23 x24 x25 x26 x27 H locs ls hS hl h
  rw [wM_turnedFrom_J109] at h
  refine lv_iconst (v := 0) hx hb dX3_turnedFrom_109 (by decide) ?_
  exact (kM_turnedFrom_J110 F hO hK40) σ x23 x24 x25 x26 x27 0 H locs ls hS (lv_sub hl [0, 1, 2, 3, 4, 5] rfl) h
set_option maxHeartbeats 4000000 in
set_option maxRecDepth 100000 in
theorem kM_turnedFrom_L40 {p : Program} {l : Launch} {e : Env} {s : State} {m : MethodId} {args : Array Value} {below : List Frame} {meth : Method} {c : Code} {g : MG} {post : Int32 → MS → Prop} {K136 : MS → Int32 → Int32 → Int32 → Int32 → Prop} (F : gFx p s m c meth args cX3_turnedFrom 7 RX3 (some .int) (mD g) (mcl g) (mty g)) (hO : MOK g) (hK136 : ∀ (σ : MS) (z0 : Int32) (z1 : Int32) (z2 : Int32) (z3 : Int32) (H : Heap) (locs : List Loc) (ls : Array Slot), gSt (MWd g) (MA g) s σ H locs → lv_has ls 7 [(0, .ref (mad g 62)), (1, .int z0), (2, .int z1), (3, .int z2), (4, .int z3)] → K136 σ z0 z1 z2 z3 → W p l e rM_turnedFrom s m args below meth c H locs 0 0 (MQ below (va_Qi post (gB (MWd g)) (MA g)) args s 0 0 (MA g)) (F0 m 136 ls [])) : ∀ (n : Nat) (σ : MS) (x14 : Int32) (x15 : Int32) (x16 : Int32) (x17 : Int32) (x18 : Int32) (H : Heap) (locs : List Loc) (ls : Array Slot), gSt (MWd g) (MA g) s σ H locs → lv_has ls 7 [(0, .ref (mad g 62)), (1, .int x14), (2, .int x15), (3, .int x16), (4, .int x17), (5, .int x18)] → wM_turnedFrom_L40 post K136 n σ x14 x15 x16 x17 x18 → W p l e rM_turnedFrom s m args below meth c H locs 0 0 (MQ below (va_Qi post (gB (MWd g)) (MA g)) args s 0 0 (MA g)) (F0 m 40 ls []) := by
  have hx := F.hx
  have hb := F.hb
  have hts := F.1.2.2.2.2
  have hown := F.1.2.2.2.1
  intro n
  induction n with
  | zero =>
    intro σ x14 x15 x16 x17 x18 H locs ls hS hl h
    exact False.elim h
  | succ n ih =>
    intro σ x14 x15 x16 x17 x18 H locs ls hS hl h
    rw [wM_turnedFrom_L40] at h
    refine lv_iload hx hb dX3_turnedFrom_40 (lv_at hl 5 rfl) ?_
    refine lv_aload_n hx hb dX3_turnedFrom_42 rfl (lv_at hl 0 rfl) ?_
    refine m_geti F hO hS 1 (by decide) rfl q1398 dX3_turnedFrom_43 ?_
    refine lv_icmp_ge (tgt := 136) hx hb dX3_turnedFrom_46 (by decide) (fun c19 => ?_) (fun c19 => ?_)
    · have h := h.1 c19
      exact hK136 σ x14 x15 x16 x17 H locs ls hS (lv_sub hl [0, 1, 2, 3, 4] rfl) h
    · have h := h.2 c19
      refine lv_aload_n hx hb dX3_turnedFrom_49 rfl (lv_at hl 0 rfl) ?_
      refine lv_iload hx hb dX3_turnedFrom_50 (lv_at hl 5 rfl) ?_
      refine gw_callVi (As := [.int x18]) (rest := []) F hS (tM_isHouse l g hO σ x18 _ h) (cwV 1 hts (lw_V q1634 q1636 qs42 q90 q1637) rfl rfl rfl (by decide +kernel) ⟨Nat.le_of_ble_eq_true rfl, Nat.le_of_ble_eq_true rfl⟩) (m_rec F hO hS) rfl hl.1 rfl (Nat.le_of_ble_eq_true rfl) dX3_turnedFrom_52 ⟨Nat.le_refl 0, Nat.le_refl 0⟩ (fun r21 s20 H locs h hS => ?_)
      obtain ⟨zr21, h⟩ := h
      refine lv_if_eq (tgt := 109) hx hb dX3_turnedFrom_55 (by decide) (fun c22 => ?_) (fun c22 => ?_)
      · have h := h.1 c22
        exact (kM_turnedFrom_J109 F hO ih) s20 x14 x15 x16 x17 x18 H locs ls hS (lv_sub hl [0, 1, 2, 3, 4, 5] rfl) h
      · have h := h.2 c22
        refine lv_aload_n hx hb dX3_turnedFrom_58 rfl (lv_at hl 0 rfl) ?_
        refine lv_aload_n hx hb dX3_turnedFrom_59 rfl (lv_at hl 0 rfl) ?_
        refine m_geta F hO hS 31 (by decide) rfl q1428 dX3_turnedFrom_60 ?_
        refine lv_iload hx hb dX3_turnedFrom_63 (lv_at hl 4 rfl) ?_
        obtain ⟨b39, h⟩ := h
        refine m_iald F hS 31 25 rfl rfl b39 dX3_turnedFrom_65 ?_
        refine gw_callVi (As := [.int (s20 31 x17.toNatClampNeg)]) (rest := []) F hS (tM_isHouse l g hO s20 (s20 31 x17.toNatClampNeg) _ h) (cwV 1 hts (lw_V q1634 q1636 qs42 q90 q1637) rfl rfl rfl (by decide +kernel) ⟨Nat.le_of_ble_eq_true rfl, Nat.le_of_ble_eq_true rfl⟩) (m_rec F hO hS) rfl hl.1 rfl (Nat.le_of_ble_eq_true rfl) dX3_turnedFrom_66 ⟨Nat.le_refl 0, Nat.le_refl 0⟩ (fun r41 s40 H locs h hS => ?_)
        obtain ⟨zr41, h⟩ := h
        obtain ⟨b46, h⟩ := h
        refine gcut (P := ∀ (v45 : Int32) (H : Heap) (locs : List Loc) (ls : Array Slot), v45 = (if r41 = 0 then 0 else if x18 = (s40 31 x17.toNatClampNeg) then 1 else if (((s40 8 x18.toNatClampNeg) >>> ((s40 31 x17.toNatClampNeg) &&& 31)) &&& 1) = 1 then 1 else 0) → gSt (MWd g) (MA g) s s40 H locs → lv_has ls 7 [(0, .ref (mad g 62)), (1, .int x14), (2, .int x15), (3, .int x16), (4, .int x17), (5, .int x18)] → W p l e rM_turnedFrom s m args below meth c H locs 0 0 (MQ below (va_Qi post (gB (MWd g)) (MA g)) args s 0 0 (MA g)) (F0 m 110 ls [.int v45])) (fun v45 H locs ls ev45 hS hl => ?_) (fun J47 => ?_)
        · have h := h v45 ev45
          refine lv_istore (lv' := [(6, .int v45), (0, .ref (mad g 62)), (1, .int x14), (2, .int x15), (3, .int x16), (4, .int x17), (5, .int x18)]) hx hb dX3_turnedFrom_110 hl (by decide) rfl (fun ls hl => ?_)
          refine lv_iload_n hx hb dX3_turnedFrom_112 rfl (lv_at hl 3 rfl) ?_
          refine lv_iload hx hb dX3_turnedFrom_113 (lv_at hl 0 rfl) ?_
          refine gcut (P := ∀ (v49 : Int32) (H : Heap) (locs : List Loc) (ls : Array Slot), v49 = (if v45 = 0 then ((1 : Int32) <<< (x18 &&& 31)) ^^^ (-1) else (-1)) → gSt (MWd g) (MA g) s s40 H locs → lv_has ls 7 [(0, .ref (mad g 62)), (1, .int x14), (3, .int x16), (4, .int x17), (5, .int x18)] → W p l e rM_turnedFrom s m args below meth c H locs 0 0 (MQ below (va_Qi post (gB (MWd g)) (MA g)) args s 0 0 (MA g)) (F0 m 128 ls [.int v49, .int x15])) (fun v49 H locs ls ev49 hS hl => ?_) (fun J50 => ?_)
          · have h := h v49 ev49
            refine lv_iand hx hb dX3_turnedFrom_128 ?_
            refine lv_topi (fun x51 ex51 => ?_)
            have h := h x51 ex51
            refine lv_istore_n (lv' := [(2, .int x51), (0, .ref (mad g 62)), (1, .int x14), (3, .int x16), (4, .int x17), (5, .int x18)]) hx hb dX3_turnedFrom_129 rfl hl (by decide) rfl (fun ls hl => ?_)
            obtain ⟨x52, ex52⟩ : ∃ y : Int32, y = x18 + 1 := ⟨_, rfl⟩
            have h := h x52 ex52
            refine lv_iinc (v := x52) (lv' := [(5, .int x52), (2, .int x51), (0, .ref (mad g 62)), (1, .int x14), (3, .int x16), (4, .int x17)]) hx hb dX3_turnedFrom_130 hl (k := 5) rfl (by rw [ex52]; rfl) (by decide) rfl (fun ls hl => ?_)
            refine lv_goto (tgt := 40) hx hb dX3_turnedFrom_133 (by decide) ?_
            exact ih s40 x14 x51 x16 x17 x52 H locs ls hS (lv_sub hl [2, 3, 1, 4, 5, 0] rfl) h
          · refine lv_if_eq (tgt := 122) hx hb dX3_turnedFrom_115 (by decide) (fun c48 => ?_) (fun c48 => ?_)
            · refine lv_iconst (v := 1) hx hb dX3_turnedFrom_122 (by decide) ?_
              refine lv_iload hx hb dX3_turnedFrom_123 (lv_at hl 6 rfl) ?_
              refine lv_ishl hx hb dX3_turnedFrom_125 ?_
              refine lv_iconst (v := (-1)) hx hb dX3_turnedFrom_126 (by decide) ?_
              refine lv_ixor hx hb dX3_turnedFrom_127 ?_
              exact J50 _ H locs ls (by first | with_reducible rfl | ((try rw [if_pos c48]); done)) hS (lv_sub hl [1, 2, 4, 5, 6] rfl)
            · refine lv_iconst (v := (-1)) hx hb dX3_turnedFrom_118 (by decide) ?_
              refine lv_goto (tgt := 128) hx hb dX3_turnedFrom_119 (by decide) ?_
              exact J50 _ H locs ls (by first | with_reducible rfl | ((try rw [if_neg c48]); done)) hS (lv_sub hl [1, 2, 4, 5, 6] rfl)
        · refine lv_if_eq (tgt := 109) hx hb dX3_turnedFrom_69 (by decide) (fun c42 => ?_) (fun c42 => ?_)
          · refine lv_iconst (v := 0) hx hb dX3_turnedFrom_109 (by decide) ?_
            exact J47 _ H locs ls (by first | with_reducible rfl | ((try rw [if_pos c42]); done)) hS (lv_sub hl [0, 1, 2, 3, 4, 5] rfl)
          · refine lv_iload hx hb dX3_turnedFrom_72 (lv_at hl 5 rfl) ?_
            refine lv_aload_n hx hb dX3_turnedFrom_74 rfl (lv_at hl 0 rfl) ?_
            refine m_geta F hO hS 31 (by decide) rfl q1428 dX3_turnedFrom_75 ?_
            refine lv_iload hx hb dX3_turnedFrom_78 (lv_at hl 4 rfl) ?_
            refine m_iald F hS 31 25 rfl rfl ((b46 c42).1) dX3_turnedFrom_80 ?_
            refine lv_icmp_eq (tgt := 105) hx hb dX3_turnedFrom_81 (by decide) (fun c43 => ?_) (fun c43 => ?_)
            · refine lv_iconst (v := 1) hx hb dX3_turnedFrom_105 (by decide) ?_
              refine lv_goto (tgt := 110) hx hb dX3_turnedFrom_106 (by decide) ?_
              exact J47 _ H locs ls (by first | with_reducible rfl | ((try rw [if_neg c42]); (try rw [if_pos c43]); done)) hS (lv_sub hl [0, 1, 2, 3, 4, 5] rfl)
            · refine lv_aload_n hx hb dX3_turnedFrom_84 rfl (lv_at hl 0 rfl) ?_
              refine m_geta F hO hS 8 (by decide) rfl q1405 dX3_turnedFrom_85 ?_
              refine lv_iload hx hb dX3_turnedFrom_88 (lv_at hl 5 rfl) ?_
              refine m_iald F hS 8 6 rfl rfl (((b46 c42).2 c43).1) dX3_turnedFrom_90 ?_
              refine lv_aload_n hx hb dX3_turnedFrom_91 rfl (lv_at hl 0 rfl) ?_
              refine m_geta F hO hS 31 (by decide) rfl q1428 dX3_turnedFrom_92 ?_
              refine lv_iload hx hb dX3_turnedFrom_95 (lv_at hl 4 rfl) ?_
              refine m_iald F hS 31 25 rfl rfl (((b46 c42).2 c43).2) dX3_turnedFrom_97 ?_
              refine lv_ishr hx hb dX3_turnedFrom_98 ?_
              refine lv_iconst (v := 1) hx hb dX3_turnedFrom_99 (by decide) ?_
              refine lv_iand hx hb dX3_turnedFrom_100 ?_
              refine lv_iconst (v := 1) hx hb dX3_turnedFrom_101 (by decide) ?_
              refine lv_icmp_ne (tgt := 109) hx hb dX3_turnedFrom_102 (by decide) (fun c44 => ?_) (fun c44 => ?_)
              · refine lv_iconst (v := 0) hx hb dX3_turnedFrom_109 (by decide) ?_
                exact J47 _ H locs ls (by first | with_reducible rfl | ((try rw [if_neg c42]); (try rw [if_neg c43]); (try rw [if_neg c44]); done)) hS (lv_sub hl [0, 1, 2, 3, 4, 5] rfl)
              · refine lv_iconst (v := 1) hx hb dX3_turnedFrom_105 (by decide) ?_
                refine lv_goto (tgt := 110) hx hb dX3_turnedFrom_106 (by decide) ?_
                exact J47 _ H locs ls (by first | with_reducible rfl | ((try rw [if_neg c42]); (try rw [if_neg c43]); (try rw [if_pos c44]); done)) hS (lv_sub hl [0, 1, 2, 3, 4, 5] rfl)
set_option maxHeartbeats 4000000 in
set_option maxRecDepth 100000 in
theorem kM_turnedFrom_L14 {p : Program} {l : Launch} {e : Env} {s : State} {m : MethodId} {args : Array Value} {below : List Frame} {meth : Method} {c : Code} {g : MG} {post : Int32 → MS → Prop} (F : gFx p s m c meth args cX3_turnedFrom 7 RX3 (some .int) (mD g) (mcl g) (mty g)) (hO : MOK g) : ∀ (n : Nat) (σ : MS) (x2 : Int32) (x3 : Int32) (x4 : Int32) (x5 : Int32) (H : Heap) (locs : List Loc) (ls : Array Slot), gSt (MWd g) (MA g) s σ H locs → lv_has ls 7 [(0, .ref (mad g 62)), (1, .int x2), (2, .int x3), (3, .int x4), (4, .int x5)] → wM_turnedFrom_L14 post n σ x2 x3 x4 x5 → W p l e rM_turnedFrom s m args below meth c H locs 0 0 (MQ below (va_Qi post (gB (MWd g)) (MA g)) args s 0 0 (MA g)) (F0 m 14 ls []) := by
  have hx := F.hx
  have hb := F.hb
  have hts := F.1.2.2.2.2
  have hown := F.1.2.2.2.1
  intro n
  induction n with
  | zero =>
    intro σ x2 x3 x4 x5 H locs ls hS hl h
    exact False.elim h
  | succ n ih =>
    intro σ x2 x3 x4 x5 H locs ls hS hl h
    rw [wM_turnedFrom_L14] at h
    refine lv_iload hx hb dX3_turnedFrom_14 (lv_at hl 4 rfl) ?_
    refine lv_aload_n hx hb dX3_turnedFrom_16 rfl (lv_at hl 0 rfl) ?_
    refine m_geti F hO hS 30 (by decide) rfl q1427 dX3_turnedFrom_17 ?_
    refine lv_icmp_ge (tgt := 142) hx hb dX3_turnedFrom_20 (by decide) (fun c6 => ?_) (fun c6 => ?_)
    · have h := h.1 c6
      refine lv_iload_n hx hb dX3_turnedFrom_142 rfl (lv_at hl 3 rfl) ?_
      refine gcut (P := ∀ (v8 : Int32) (H : Heap) (locs : List Loc) (ls : Array Slot), v8 = (if x4 = 0 then (-4) else x3) → gSt (MWd g) (MA g) s σ H locs → lv_has ls 7 [] → W p l e rM_turnedFrom s m args below meth c H locs 0 0 (MQ below (va_Qi post (gB (MWd g)) (MA g)) args s 0 0 (MA g)) (F0 m 152 ls [.int v8])) (fun v8 H locs ls ev8 hS hl => ?_) (fun J9 => ?_)
      · have h := h v8 ev8
        exact gw_iret F hS h dX3_turnedFrom_152
      · refine lv_if_ne (tgt := 151) hx hb dX3_turnedFrom_143 (by decide) (fun c7 => ?_) (fun c7 => ?_)
        · refine lv_iload_n hx hb dX3_turnedFrom_151 rfl (lv_at hl 2 rfl) ?_
          exact J9 _ H locs ls (by first | with_reducible rfl | ((try rw [if_neg c7]); done)) hS (lv_sub hl [] rfl)
        · refine lv_bipush (v := (-4)) hx hb dX3_turnedFrom_146 (by decide) ?_
          refine lv_goto (tgt := 152) hx hb dX3_turnedFrom_148 (by decide) ?_
          exact J9 _ H locs ls (by first | with_reducible rfl | ((try rw [if_pos c7]); done)) hS (lv_sub hl [] rfl)
    · have h := h.2 c6
      refine lv_aload_n hx hb dX3_turnedFrom_23 rfl (lv_at hl 0 rfl) ?_
      refine m_geta F hO hS 32 (by decide) rfl q1429 dX3_turnedFrom_24 ?_
      refine lv_iload hx hb dX3_turnedFrom_27 (lv_at hl 4 rfl) ?_
      obtain ⟨b10, h⟩ := h
      refine m_iald F hS 32 26 rfl rfl b10 dX3_turnedFrom_29 ?_
      refine lv_iload_n hx hb dX3_turnedFrom_30 rfl (lv_at hl 1 rfl) ?_
      refine lv_icmp_lt (tgt := 136) hx hb dX3_turnedFrom_31 (by decide) (fun c11 => ?_) (fun c11 => ?_)
      · have h := h.1 c11
        obtain ⟨x12, ex12⟩ : ∃ y : Int32, y = x5 + 1 := ⟨_, rfl⟩
        have h := h x12 ex12
        refine lv_iinc (v := x12) (lv' := [(4, .int x12), (0, .ref (mad g 62)), (1, .int x2), (2, .int x3), (3, .int x4)]) hx hb dX3_turnedFrom_136 hl (k := 4) rfl (by rw [ex12]; rfl) (by decide) rfl (fun ls hl => ?_)
        refine lv_goto (tgt := 14) hx hb dX3_turnedFrom_139 (by decide) ?_
        exact ih σ x2 x3 x4 x12 H locs ls hS (lv_sub hl [1, 2, 3, 4, 0] rfl) h
      · have h := h.2 c11
        obtain ⟨x13, ex13⟩ : ∃ y : Int32, y = x4 + 1 := ⟨_, rfl⟩
        have h := h x13 ex13
        refine lv_iinc (v := x13) (lv' := [(3, .int x13), (0, .ref (mad g 62)), (1, .int x2), (2, .int x3), (4, .int x5)]) hx hb dX3_turnedFrom_34 hl (k := 3) rfl (by rw [ex13]; rfl) (by decide) rfl (fun ls hl => ?_)
        refine lv_iconst (v := 0) hx hb dX3_turnedFrom_37 (by decide) ?_
        refine lv_istore (lv' := [(5, .int 0), (3, .int x13), (0, .ref (mad g 62)), (1, .int x2), (2, .int x3), (4, .int x5)]) hx hb dX3_turnedFrom_38 hl (by decide) rfl (fun ls hl => ?_)
        obtain ⟨n53, h⟩ := h
        refine (kM_turnedFrom_L40 F hO ?_ n53) σ x2 x3 x13 x5 0 H locs ls hS (lv_sub hl [2, 3, 4, 1, 5, 0] rfl) h
        · intro σ54 x55 x56 x57 x58 H locs ls hS hl h
          obtain ⟨x59, ex59⟩ : ∃ y : Int32, y = x58 + 1 := ⟨_, rfl⟩
          have h := h x59 ex59
          refine lv_iinc (v := x59) (lv' := [(4, .int x59), (0, .ref (mad g 62)), (1, .int x55), (2, .int x56), (3, .int x57)]) hx hb dX3_turnedFrom_136 hl (k := 4) rfl (by rw [ex59]; rfl) (by decide) rfl (fun ls hl => ?_)
          refine lv_goto (tgt := 14) hx hb dX3_turnedFrom_139 (by decide) ?_
          exact ih σ54 x55 x56 x57 x59 H locs ls hS (lv_sub hl [1, 2, 3, 4, 0] rfl) h
set_option maxHeartbeats 4000000 in
set_option maxRecDepth 100000 in
theorem kM_turnedFrom {p : Program} {l : Launch} {e : Env} {s : State} {m : MethodId} {args : Array Value} {below : List Frame} {meth : Method} {c : Code} {g : MG} {post : Int32 → MS → Prop} (F : gFx p s m c meth args cX3_turnedFrom 7 RX3 (some .int) (mD g) (mcl g) (mty g)) (hO : MOK g) (σ : MS) (a1 : Int32) (H : Heap) (locs : List Loc) (ls : Array Slot) (hS : gSt (MWd g) (MA g) s σ H locs) (hl : lv_has ls 7 [(0, .ref (mad g 62)), (1, .int a1)]) (h : wM_turnedFrom post σ a1) : W p l e rM_turnedFrom s m args below meth c H locs 0 0 (MQ below (va_Qi post (gB (MWd g)) (MA g)) args s 0 0 (MA g)) (F0 m 0 ls []) := by
  have hx := F.hx
  have hb := F.hb
  have hts := F.1.2.2.2.2
  have hown := F.1.2.2.2.1
  rw [wM_turnedFrom] at h
  refine lv_iconst (v := 1) hx hb dX3_turnedFrom_0 (by decide) ?_
  refine lv_aload_n hx hb dX3_turnedFrom_1 rfl (lv_at hl 0 rfl) ?_
  refine m_geti F hO hS 1 (by decide) rfl q1398 dX3_turnedFrom_2 ?_
  refine lv_ishl hx hb dX3_turnedFrom_5 ?_
  refine lv_iconst (v := 1) hx hb dX3_turnedFrom_6 (by decide) ?_
  refine lv_isub hx hb dX3_turnedFrom_7 ?_
  refine lv_topi (fun x1 ex1 => ?_)
  have h := h x1 ex1
  refine lv_istore_n (lv' := [(2, .int x1), (0, .ref (mad g 62)), (1, .int a1)]) hx hb dX3_turnedFrom_8 rfl hl (by decide) rfl (fun ls hl => ?_)
  refine lv_iconst (v := 0) hx hb dX3_turnedFrom_9 (by decide) ?_
  refine lv_istore_n (lv' := [(3, .int 0), (2, .int x1), (0, .ref (mad g 62)), (1, .int a1)]) hx hb dX3_turnedFrom_10 rfl hl (by decide) rfl (fun ls hl => ?_)
  refine lv_iconst (v := 0) hx hb dX3_turnedFrom_11 (by decide) ?_
  refine lv_istore (lv' := [(4, .int 0), (3, .int 0), (2, .int x1), (0, .ref (mad g 62)), (1, .int a1)]) hx hb dX3_turnedFrom_12 hl (by decide) rfl (fun ls hl => ?_)
  obtain ⟨n60, h⟩ := h
  exact (kM_turnedFrom_L14 F hO n60) σ a1 x1 0 0 H locs ls hS (lv_sub hl [3, 4, 2, 1, 0] rfl) h
set_option maxHeartbeats 4000000 in
set_option maxRecDepth 100000 in
theorem tM_turnedFrom (l : Launch) (g : MG) (hO : MOK g) (σ : MS) (a1 : Int32) (post : Int32 → MS → Prop) (h : wM_turnedFrom post σ a1) : Met l yX3_turnedFrom (ws_ yX3_turnedFrom cX3_turnedFrom 7 (some .int)) rM_turnedFrom (va_Pc [.ref (mad g 62), .int a1] (gPre (MWd g) (mD g) (mcl g) (mty g) σ)) (va_Qi post (gB (MWd g)) (MA g)) 0 0 (MA g) := by
  refine Met.ofW (cc := cX3_turnedFrom) (maxL := 7) (ret := (some .int)) (by decide) rfl ?_
  intro p e s m args below meth c s₁ B hml hv
  obtain ⟨rfl, hW, hK⟩ := hv
  have hts := atoms_spec (ws := (ws_ yX3_turnedFrom cX3_turnedFrom 7 (some .int))) B.pre
  have hts : ∀ w ∈ lw_all, w.before _ s = true := fun w h => hts w (List.mem_cons_of_mem _ h)
  have hl := lv_entry ([.ref (mad g 62), .int a1]) (n := 7) (Nat.le_of_ble_eq_true rfl)
  rw [lg_entry_eq]
  generalize (lg_sl ([.ref (mad g 62), .int a1]) ++ List.replicate (7 - (lg_sl ([.ref (mad g 62), .int a1])).length) Slot.unset).toArray = ls at hl ⊢
  exact kM_turnedFrom ⟨⟨B.exec, B.bytes, hml, findClass_of_methodNamed B.named, hts⟩, hK, B.returns, B.notSynchronized⟩ hO σ a1 s.heap [] ls ⟨hW, va_S.rf⟩ hl h
def wM_turned (post : Int32 → MS → Prop) (σ : MS) (a1 : Int32) : Prop := wM_in (fun r2 s1 => (r2 = 0 → post (-1) s1) ∧ (¬ (r2 = 0) → wM_turnedFrom (fun r5 s4 => post r5 s4) s1 a1)) σ a1.toInt64 0 9999
abbrev rM_turned : Room := { frames := 2, cells := 0, slots := 0, locals := 47 }
set_option maxHeartbeats 4000000 in
set_option maxRecDepth 100000 in
theorem kM_turned {p : Program} {l : Launch} {e : Env} {s : State} {m : MethodId} {args : Array Value} {below : List Frame} {meth : Method} {c : Code} {g : MG} {post : Int32 → MS → Prop} (F : gFx p s m c meth args cX3_turned 2 RX3 (some .int) (mD g) (mcl g) (mty g)) (hO : MOK g) (σ : MS) (a1 : Int32) (H : Heap) (locs : List Loc) (ls : Array Slot) (hS : gSt (MWd g) (MA g) s σ H locs) (hl : lv_has ls 2 [(0, .ref (mad g 62)), (1, .int a1)]) (h : wM_turned post σ a1) : W p l e rM_turned s m args below meth c H locs 0 0 (MQ below (va_Qi post (gB (MWd g)) (MA g)) args s 0 0 (MA g)) (F0 m 0 ls []) := by
  have hx := F.hx
  have hb := F.hb
  have hts := F.1.2.2.2.2
  have hown := F.1.2.2.2.1
  rw [wM_turned] at h
  refine lv_iload_n hx hb dX3_turned_0 rfl (lv_at hl 1 rfl) ?_
  refine lv_i2l hx hb dX3_turned_1 rfl ?_
  refine lv_lconst (v := 0) hx hb dX3_turned_2 (by decide) ?_
  refine lv_ldc2 (v := 9999) hx hb hown (hts _ q1921) dX3_turned_3 ?_
  refine gw_callSi (As := [.long a1.toInt64, .long 0, .long 9999]) (rest := []) F hS (tM_in l g hO σ a1.toInt64 0 9999 _ h) (va_cwS 3 hts (lw_S q1593 q1594 q90 q1595) rfl rfl rfl (by decide +kernel) ⟨Nat.le_of_ble_eq_true rfl, Nat.le_of_ble_eq_true rfl⟩) rfl hl.1 rfl (Nat.le_of_ble_eq_true rfl) dX3_turned_6 ⟨Nat.le_refl 0, Nat.le_refl 0⟩ (fun r2 s1 H locs h hS => ?_)
  obtain ⟨zr2, h⟩ := h
  refine lv_if_eq (tgt := 20) hx hb dX3_turned_9 (by decide) (fun c3 => ?_) (fun c3 => ?_)
  · have h := h.1 c3
    refine lv_iconst (v := (-1)) hx hb dX3_turned_20 (by decide) ?_
    exact gw_iret F hS h dX3_turned_21
  · have h := h.2 c3
    refine lv_aload_n hx hb dX3_turned_12 rfl (lv_at hl 0 rfl) ?_
    refine lv_iload_n hx hb dX3_turned_13 rfl (lv_at hl 1 rfl) ?_
    refine gw_callVi (As := [.int a1]) (rest := []) F hS (tM_turnedFrom l g hO s1 a1 _ h) (cwV 1 hts (lw_V q1922 q1924 qs77 q90 q1925) rfl rfl rfl (by decide +kernel) ⟨Nat.le_of_ble_eq_true rfl, Nat.le_of_ble_eq_true rfl⟩) (m_rec F hO hS) rfl hl.1 rfl (Nat.le_of_ble_eq_true rfl) dX3_turned_14 ⟨Nat.le_refl 0, Nat.le_refl 0⟩ (fun r5 s4 H locs h hS => ?_)
    refine lv_goto (tgt := 21) hx hb dX3_turned_17 (by decide) ?_
    exact gw_iret F hS h dX3_turned_21
set_option maxHeartbeats 4000000 in
set_option maxRecDepth 100000 in
theorem tM_turned (l : Launch) (g : MG) (hO : MOK g) (σ : MS) (a1 : Int32) (post : Int32 → MS → Prop) (h : wM_turned post σ a1) : Met l yX3_turned (ws_ yX3_turned cX3_turned 2 (some .int)) rM_turned (va_Pc [.ref (mad g 62), .int a1] (gPre (MWd g) (mD g) (mcl g) (mty g) σ)) (va_Qi post (gB (MWd g)) (MA g)) 0 0 (MA g) := by
  refine Met.ofW (cc := cX3_turned) (maxL := 2) (ret := (some .int)) (by decide) rfl ?_
  intro p e s m args below meth c s₁ B hml hv
  obtain ⟨rfl, hW, hK⟩ := hv
  have hts := atoms_spec (ws := (ws_ yX3_turned cX3_turned 2 (some .int))) B.pre
  have hts : ∀ w ∈ lw_all, w.before _ s = true := fun w h => hts w (List.mem_cons_of_mem _ h)
  have hl := lv_entry ([.ref (mad g 62), .int a1]) (n := 2) (Nat.le_of_ble_eq_true rfl)
  rw [lg_entry_eq]
  generalize (lg_sl ([.ref (mad g 62), .int a1]) ++ List.replicate (2 - (lg_sl ([.ref (mad g 62), .int a1])).length) Slot.unset).toArray = ls at hl ⊢
  exact kM_turned ⟨⟨B.exec, B.bytes, hml, findClass_of_methodNamed B.named, hts⟩, hK, B.returns, B.notSynchronized⟩ hO σ a1 s.heap [] ls ⟨hW, va_S.rf⟩ hl h
def wM_sure_L37 (post : Int32 → MS → Prop) : Nat → MS → Int32 → Int32 → Prop
  | 0, _, _, _ => False
  | n + 1, σ, x10, x11 => (¬ (((x10 >>> (x11 &&& 31)) &&& 1) = 0) → post x11 σ) ∧ (((x10 >>> (x11 &&& 31)) &&& 1) = 0 → (∀ x13 : Int32, x13 = x11 + 1 → wM_sure_L37 post n σ x10 x13))
def wM_sure (post : Int32 → MS → Prop) (σ : MS) (a1 : Int32) : Prop := wM_in (fun r2 s1 => (¬ (r2 = 0) → wM_turnedFrom (fun r5 s4 => (r5 < 0 → post (-4) s4) ∧ (¬ (r5 < 0) → wM_many (fun r8 s7 => (r8 = 1 → ∃ n14, wM_sure_L37 post n14 s7 r5 0) ∧ (¬ (r8 = 1) → post (-4) s7)) s4 r5)) s1 a1) ∧ (r2 = 0 → post (-1) s1)) σ a1.toInt64 0 9999
abbrev rM_sure : Room := { frames := 2, cells := 0, slots := 0, locals := 47 }
set_option maxHeartbeats 4000000 in
set_option maxRecDepth 100000 in
theorem kM_sure_L37 {p : Program} {l : Launch} {e : Env} {s : State} {m : MethodId} {args : Array Value} {below : List Frame} {meth : Method} {c : Code} {g : MG} {post : Int32 → MS → Prop} (F : gFx p s m c meth args cX3_sure 4 RX3 (some .int) (mD g) (mcl g) (mty g)) (hO : MOK g) : ∀ (n : Nat) (σ : MS) (x10 : Int32) (x11 : Int32) (H : Heap) (locs : List Loc) (ls : Array Slot), gSt (MWd g) (MA g) s σ H locs → lv_has ls 4 [(2, .int x10), (3, .int x11)] → wM_sure_L37 post n σ x10 x11 → W p l e rM_sure s m args below meth c H locs 0 0 (MQ below (va_Qi post (gB (MWd g)) (MA g)) args s 0 0 (MA g)) (F0 m 37 ls []) := by
  have hx := F.hx
  have hb := F.hb
  have hts := F.1.2.2.2.2
  have hown := F.1.2.2.2.1
  intro n
  induction n with
  | zero =>
    intro σ x10 x11 H locs ls hS hl h
    exact False.elim h
  | succ n ih =>
    intro σ x10 x11 H locs ls hS hl h
    rw [wM_sure_L37] at h
    refine lv_iload_n hx hb dX3_sure_37 rfl (lv_at hl 0 rfl) ?_
    refine lv_iload_n hx hb dX3_sure_38 rfl (lv_at hl 1 rfl) ?_
    refine lv_ishr hx hb dX3_sure_39 ?_
    refine lv_iconst (v := 1) hx hb dX3_sure_40 (by decide) ?_
    refine lv_iand hx hb dX3_sure_41 ?_
    refine lv_if_ne (tgt := 51) hx hb dX3_sure_42 (by decide) (fun c12 => ?_) (fun c12 => ?_)
    · have h := h.1 c12
      refine lv_iload_n hx hb dX3_sure_51 rfl (lv_at hl 1 rfl) ?_
      exact gw_iret F hS h dX3_sure_52
    · have h := h.2 c12
      obtain ⟨x13, ex13⟩ : ∃ y : Int32, y = x11 + 1 := ⟨_, rfl⟩
      have h := h x13 ex13
      refine lv_iinc (v := x13) (lv' := [(3, .int x13), (2, .int x10)]) hx hb dX3_sure_45 hl (k := 1) rfl (by rw [ex13]; rfl) (by decide) rfl (fun ls hl => ?_)
      refine lv_goto (tgt := 37) hx hb dX3_sure_48 (by decide) ?_
      exact ih σ x10 x13 H locs ls hS (lv_sub hl [1, 0] rfl) h
set_option maxHeartbeats 4000000 in
set_option maxRecDepth 100000 in
theorem kM_sure {p : Program} {l : Launch} {e : Env} {s : State} {m : MethodId} {args : Array Value} {below : List Frame} {meth : Method} {c : Code} {g : MG} {post : Int32 → MS → Prop} (F : gFx p s m c meth args cX3_sure 4 RX3 (some .int) (mD g) (mcl g) (mty g)) (hO : MOK g) (σ : MS) (a1 : Int32) (H : Heap) (locs : List Loc) (ls : Array Slot) (hS : gSt (MWd g) (MA g) s σ H locs) (hl : lv_has ls 4 [(0, .ref (mad g 62)), (1, .int a1)]) (h : wM_sure post σ a1) : W p l e rM_sure s m args below meth c H locs 0 0 (MQ below (va_Qi post (gB (MWd g)) (MA g)) args s 0 0 (MA g)) (F0 m 0 ls []) := by
  have hx := F.hx
  have hb := F.hb
  have hts := F.1.2.2.2.2
  have hown := F.1.2.2.2.1
  rw [wM_sure] at h
  refine lv_iload_n hx hb dX3_sure_0 rfl (lv_at hl 1 rfl) ?_
  refine lv_i2l hx hb dX3_sure_1 rfl ?_
  refine lv_lconst (v := 0) hx hb dX3_sure_2 (by decide) ?_
  refine lv_ldc2 (v := 9999) hx hb hown (hts _ q1921) dX3_sure_3 ?_
  refine gw_callSi (As := [.long a1.toInt64, .long 0, .long 9999]) (rest := []) F hS (tM_in l g hO σ a1.toInt64 0 9999 _ h) (va_cwS 3 hts (lw_S q1593 q1594 q90 q1595) rfl rfl rfl (by decide +kernel) ⟨Nat.le_of_ble_eq_true rfl, Nat.le_of_ble_eq_true rfl⟩) rfl hl.1 rfl (Nat.le_of_ble_eq_true rfl) dX3_sure_6 ⟨Nat.le_refl 0, Nat.le_refl 0⟩ (fun r2 s1 H locs h hS => ?_)
  obtain ⟨zr2, h⟩ := h
  refine lv_if_ne (tgt := 14) hx hb dX3_sure_9 (by decide) (fun c3 => ?_) (fun c3 => ?_)
  · have h := h.1 c3
    refine lv_aload_n hx hb dX3_sure_14 rfl (lv_at hl 0 rfl) ?_
    refine lv_iload_n hx hb dX3_sure_15 rfl (lv_at hl 1 rfl) ?_
    refine gw_callVi (As := [.int a1]) (rest := []) F hS (tM_turnedFrom l g hO s1 a1 _ h) (cwV 1 hts (lw_V q1922 q1924 qs77 q90 q1925) rfl rfl rfl (by decide +kernel) ⟨Nat.le_of_ble_eq_true rfl, Nat.le_of_ble_eq_true rfl⟩) (m_rec F hO hS) rfl hl.1 rfl (Nat.le_of_ble_eq_true rfl) dX3_sure_16 ⟨Nat.le_refl 0, Nat.le_refl 0⟩ (fun r5 s4 H locs h hS => ?_)
    refine lv_istore_n (lv' := [(2, .int r5), (0, .ref (mad g 62)), (1, .int a1)]) hx hb dX3_sure_19 rfl hl (by decide) rfl (fun ls hl => ?_)
    refine lv_iload_n hx hb dX3_sure_20 rfl (lv_at hl 0 rfl) ?_
    refine lv_if_lt (tgt := 32) hx hb dX3_sure_21 (by decide) (fun c6 => ?_) (fun c6 => ?_)
    · have h := h.1 c6
      refine lv_bipush (v := (-4)) hx hb dX3_sure_32 (by decide) ?_
      exact gw_iret F hS h dX3_sure_34
    · have h := h.2 c6
      refine lv_iload_n hx hb dX3_sure_24 rfl (lv_at hl 0 rfl) ?_
      refine gw_callSi (As := [.int r5]) (rest := []) F hS (tM_many l g hO s4 r5 _ h) (va_cwS 1 hts (lw_S q1751 q1752 q90 q1753) rfl rfl rfl (by decide +kernel) ⟨Nat.le_of_ble_eq_true rfl, Nat.le_of_ble_eq_true rfl⟩) rfl hl.1 rfl (Nat.le_of_ble_eq_true rfl) dX3_sure_25 ⟨Nat.le_refl 0, Nat.le_refl 0⟩ (fun r8 s7 H locs h hS => ?_)
      refine lv_iconst (v := 1) hx hb dX3_sure_28 (by decide) ?_
      refine lv_icmp_eq (tgt := 35) hx hb dX3_sure_29 (by decide) (fun c9 => ?_) (fun c9 => ?_)
      · have h := h.1 c9
        refine lv_iconst (v := 0) hx hb dX3_sure_35 (by decide) ?_
        refine lv_istore_n (lv' := [(3, .int 0), (2, .int r5), (0, .ref (mad g 62)), (1, .int a1)]) hx hb dX3_sure_36 rfl hl (by decide) rfl (fun ls hl => ?_)
        obtain ⟨n14, h⟩ := h
        exact (kM_sure_L37 F hO n14) s7 r5 0 H locs ls hS (lv_sub hl [1, 0] rfl) h
      · have h := h.2 c9
        refine lv_bipush (v := (-4)) hx hb dX3_sure_32 (by decide) ?_
        exact gw_iret F hS h dX3_sure_34
  · have h := h.2 c3
    refine lv_iconst (v := (-1)) hx hb dX3_sure_12 (by decide) ?_
    exact gw_iret F hS h dX3_sure_13
set_option maxHeartbeats 4000000 in
set_option maxRecDepth 100000 in
theorem tM_sure (l : Launch) (g : MG) (hO : MOK g) (σ : MS) (a1 : Int32) (post : Int32 → MS → Prop) (h : wM_sure post σ a1) : Met l yX3_sure (ws_ yX3_sure cX3_sure 4 (some .int)) rM_sure (va_Pc [.ref (mad g 62), .int a1] (gPre (MWd g) (mD g) (mcl g) (mty g) σ)) (va_Qi post (gB (MWd g)) (MA g)) 0 0 (MA g) := by
  refine Met.ofW (cc := cX3_sure) (maxL := 4) (ret := (some .int)) (by decide) rfl ?_
  intro p e s m args below meth c s₁ B hml hv
  obtain ⟨rfl, hW, hK⟩ := hv
  have hts := atoms_spec (ws := (ws_ yX3_sure cX3_sure 4 (some .int))) B.pre
  have hts : ∀ w ∈ lw_all, w.before _ s = true := fun w h => hts w (List.mem_cons_of_mem _ h)
  have hl := lv_entry ([.ref (mad g 62), .int a1]) (n := 4) (Nat.le_of_ble_eq_true rfl)
  rw [lg_entry_eq]
  generalize (lg_sl ([.ref (mad g 62), .int a1]) ++ List.replicate (4 - (lg_sl ([.ref (mad g 62), .int a1])).length) Slot.unset).toArray = ls at hl ⊢
  exact kM_sure ⟨⟨B.exec, B.bytes, hml, findClass_of_methodNamed B.named, hts⟩, hK, B.returns, B.notSynchronized⟩ hO σ a1 s.heap [] ls ⟨hW, va_S.rf⟩ hl h
def wM_isCut_L6 (post : Int32 → MS → Prop) : Nat → MS → Int32 → Int32 → Int32 → Int32 → Int32 → Prop
  | 0, _, _, _, _, _, _ => False
  | n + 1, σ, x1, x2, x3, x4, x5 => ((σ 55 0) ≤ x5 → bz x4 ∧ post x4 σ) ∧ (¬ ((σ 55 0) ≤ x5) → (((x4 = 0 → (((x3 >>> (x5 &&& 31)) &&& 1) = 1 → vp_in x5 8 ∧ ((σ 56 x5.toNatClampNeg) = x1 → vp_in x5 8)))) ∧ ∀ v11 : Int32, v11 = (if x4 = 0 then if ((x3 >>> (x5 &&& 31)) &&& 1) = 1 then if (σ 56 x5.toNatClampNeg) = x1 then if (σ 57 x5.toNatClampNeg) = x2 then 1 else 0 else 0 else 0 else 1) → (∀ x14 : Int32, x14 = x5 + 1 → wM_isCut_L6 post n σ x1 x2 x3 v11 x14)))
def wM_isCut (post : Int32 → MS → Prop) (σ : MS) (a1 : Int32) (a2 : Int32) (a3 : Int32) : Prop := ∃ n15, wM_isCut_L6 post n15 σ a1 a2 a3 0 0
abbrev rM_isCut : Room := { frames := 0, cells := 0, slots := 0, locals := 0 }
set_option maxHeartbeats 4000000 in
set_option maxRecDepth 100000 in
theorem kM_isCut_L6 {p : Program} {l : Launch} {e : Env} {s : State} {m : MethodId} {args : Array Value} {below : List Frame} {meth : Method} {c : Code} {g : MG} {post : Int32 → MS → Prop} (F : gFx p s m c meth args cX3_isCut 6 RX3 (some .boolean) (mD g) (mcl g) (mty g)) (hO : MOK g) : ∀ (n : Nat) (σ : MS) (x1 : Int32) (x2 : Int32) (x3 : Int32) (x4 : Int32) (x5 : Int32) (H : Heap) (locs : List Loc) (ls : Array Slot), gSt (MWd g) (MA g) s σ H locs → lv_has ls 6 [(0, .ref (mad g 62)), (1, .int x1), (2, .int x2), (3, .int x3), (4, .int x4), (5, .int x5)] → wM_isCut_L6 post n σ x1 x2 x3 x4 x5 → W p l e rM_isCut s m args below meth c H locs 0 0 (MQ below (va_Qi (zpost post) (gB (MWd g)) (MA g)) args s 0 0 (MA g)) (F0 m 6 ls []) := by
  have hx := F.hx
  have hb := F.hb
  have hts := F.1.2.2.2.2
  have hown := F.1.2.2.2.1
  intro n
  induction n with
  | zero =>
    intro σ x1 x2 x3 x4 x5 H locs ls hS hl h
    exact False.elim h
  | succ n ih =>
    intro σ x1 x2 x3 x4 x5 H locs ls hS hl h
    rw [wM_isCut_L6] at h
    refine lv_iload hx hb dX3_isCut_6 (lv_at hl 5 rfl) ?_
    refine lv_aload_n hx hb dX3_isCut_8 rfl (lv_at hl 0 rfl) ?_
    refine m_geti F hO hS 55 (by decide) rfl q1452 dX3_isCut_9 ?_
    refine lv_icmp_ge (tgt := 65) hx hb dX3_isCut_12 (by decide) (fun c6 => ?_) (fun c6 => ?_)
    · have h := h.1 c6
      refine lv_iload hx hb dX3_isCut_65 (lv_at hl 4 rfl) ?_
      exact gw_zret F hS h.1 h.2 dX3_isCut_67
    · have h := h.2 c6
      refine lv_iload hx hb dX3_isCut_15 (lv_at hl 4 rfl) ?_
      obtain ⟨b12, h⟩ := h
      refine gcut (P := ∀ (v11 : Int32) (H : Heap) (locs : List Loc) (ls : Array Slot), v11 = (if x4 = 0 then if ((x3 >>> (x5 &&& 31)) &&& 1) = 1 then if (σ 56 x5.toNatClampNeg) = x1 then if (σ 57 x5.toNatClampNeg) = x2 then 1 else 0 else 0 else 0 else 1) → gSt (MWd g) (MA g) s σ H locs → lv_has ls 6 [(0, .ref (mad g 62)), (1, .int x1), (2, .int x2), (3, .int x3), (5, .int x5)] → W p l e rM_isCut s m args below meth c H locs 0 0 (MQ below (va_Qi (zpost post) (gB (MWd g)) (MA g)) args s 0 0 (MA g)) (F0 m 57 ls [.int v11])) (fun v11 H locs ls ev11 hS hl => ?_) (fun J13 => ?_)
      · have h := h v11 ev11
        refine lv_istore (lv' := [(4, .int v11), (0, .ref (mad g 62)), (1, .int x1), (2, .int x2), (3, .int x3), (5, .int x5)]) hx hb dX3_isCut_57 hl (by decide) rfl (fun ls hl => ?_)
        obtain ⟨x14, ex14⟩ : ∃ y : Int32, y = x5 + 1 := ⟨_, rfl⟩
        have h := h x14 ex14
        refine lv_iinc (v := x14) (lv' := [(5, .int x14), (4, .int v11), (0, .ref (mad g 62)), (1, .int x1), (2, .int x2), (3, .int x3)]) hx hb dX3_isCut_59 hl (k := 5) rfl (by rw [ex14]; rfl) (by decide) rfl (fun ls hl => ?_)
        refine lv_goto (tgt := 6) hx hb dX3_isCut_62 (by decide) ?_
        exact ih σ x1 x2 x3 v11 x14 H locs ls hS (lv_sub hl [2, 3, 4, 5, 1, 0] rfl) h
      · refine lv_if_ne (tgt := 52) hx hb dX3_isCut_17 (by decide) (fun c7 => ?_) (fun c7 => ?_)
        · refine lv_iconst (v := 1) hx hb dX3_isCut_52 (by decide) ?_
          refine lv_goto (tgt := 57) hx hb dX3_isCut_53 (by decide) ?_
          exact J13 _ H locs ls (by first | with_reducible rfl | ((try rw [if_neg c7]); done)) hS (lv_sub hl [0, 1, 2, 3, 5] rfl)
        · refine lv_iload_n hx hb dX3_isCut_20 rfl (lv_at hl 3 rfl) ?_
          refine lv_iload hx hb dX3_isCut_21 (lv_at hl 5 rfl) ?_
          refine lv_ishr hx hb dX3_isCut_23 ?_
          refine lv_iconst (v := 1) hx hb dX3_isCut_24 (by decide) ?_
          refine lv_iand hx hb dX3_isCut_25 ?_
          refine lv_iconst (v := 1) hx hb dX3_isCut_26 (by decide) ?_
          refine lv_icmp_ne (tgt := 56) hx hb dX3_isCut_27 (by decide) (fun c8 => ?_) (fun c8 => ?_)
          · refine lv_iconst (v := 0) hx hb dX3_isCut_56 (by decide) ?_
            exact J13 _ H locs ls (by first | with_reducible rfl | ((try rw [if_pos c7]); (try rw [if_neg c8]); done)) hS (lv_sub hl [0, 1, 2, 3, 5] rfl)
          · refine lv_aload_n hx hb dX3_isCut_30 rfl (lv_at hl 0 rfl) ?_
            refine m_geta F hO hS 56 (by decide) rfl q1453 dX3_isCut_31 ?_
            refine lv_iload hx hb dX3_isCut_34 (lv_at hl 5 rfl) ?_
            refine m_iald F hS 56 43 rfl rfl (((b12 c7) c8).1) dX3_isCut_36 ?_
            refine lv_iload_n hx hb dX3_isCut_37 rfl (lv_at hl 1 rfl) ?_
            refine lv_icmp_ne (tgt := 56) hx hb dX3_isCut_38 (by decide) (fun c9 => ?_) (fun c9 => ?_)
            · refine lv_iconst (v := 0) hx hb dX3_isCut_56 (by decide) ?_
              exact J13 _ H locs ls (by first | with_reducible rfl | ((try rw [if_pos c7]); (try rw [if_pos c8]); (try rw [if_neg c9]); done)) hS (lv_sub hl [0, 1, 2, 3, 5] rfl)
            · refine lv_aload_n hx hb dX3_isCut_41 rfl (lv_at hl 0 rfl) ?_
              refine m_geta F hO hS 57 (by decide) rfl q1454 dX3_isCut_42 ?_
              refine lv_iload hx hb dX3_isCut_45 (lv_at hl 5 rfl) ?_
              refine m_iald F hS 57 44 rfl rfl ((((b12 c7) c8).2 c9)) dX3_isCut_47 ?_
              refine lv_iload_n hx hb dX3_isCut_48 rfl (lv_at hl 2 rfl) ?_
              refine lv_icmp_ne (tgt := 56) hx hb dX3_isCut_49 (by decide) (fun c10 => ?_) (fun c10 => ?_)
              · refine lv_iconst (v := 0) hx hb dX3_isCut_56 (by decide) ?_
                exact J13 _ H locs ls (by first | with_reducible rfl | ((try rw [if_pos c7]); (try rw [if_pos c8]); (try rw [if_pos c9]); (try rw [if_neg c10]); done)) hS (lv_sub hl [0, 1, 2, 3, 5] rfl)
              · refine lv_iconst (v := 1) hx hb dX3_isCut_52 (by decide) ?_
                refine lv_goto (tgt := 57) hx hb dX3_isCut_53 (by decide) ?_
                exact J13 _ H locs ls (by first | with_reducible rfl | ((try rw [if_pos c7]); (try rw [if_pos c8]); (try rw [if_pos c9]); (try rw [if_pos c10]); done)) hS (lv_sub hl [0, 1, 2, 3, 5] rfl)
set_option maxHeartbeats 4000000 in
set_option maxRecDepth 100000 in
theorem kM_isCut {p : Program} {l : Launch} {e : Env} {s : State} {m : MethodId} {args : Array Value} {below : List Frame} {meth : Method} {c : Code} {g : MG} {post : Int32 → MS → Prop} (F : gFx p s m c meth args cX3_isCut 6 RX3 (some .boolean) (mD g) (mcl g) (mty g)) (hO : MOK g) (σ : MS) (a1 : Int32) (a2 : Int32) (a3 : Int32) (H : Heap) (locs : List Loc) (ls : Array Slot) (hS : gSt (MWd g) (MA g) s σ H locs) (hl : lv_has ls 6 [(0, .ref (mad g 62)), (1, .int a1), (2, .int a2), (3, .int a3)]) (h : wM_isCut post σ a1 a2 a3) : W p l e rM_isCut s m args below meth c H locs 0 0 (MQ below (va_Qi (zpost post) (gB (MWd g)) (MA g)) args s 0 0 (MA g)) (F0 m 0 ls []) := by
  have hx := F.hx
  have hb := F.hb
  have hts := F.1.2.2.2.2
  have hown := F.1.2.2.2.1
  rw [wM_isCut] at h
  refine lv_iconst (v := 0) hx hb dX3_isCut_0 (by decide) ?_
  refine lv_istore (lv' := [(4, .int 0), (0, .ref (mad g 62)), (1, .int a1), (2, .int a2), (3, .int a3)]) hx hb dX3_isCut_1 hl (by decide) rfl (fun ls hl => ?_)
  refine lv_iconst (v := 0) hx hb dX3_isCut_3 (by decide) ?_
  refine lv_istore (lv' := [(5, .int 0), (4, .int 0), (0, .ref (mad g 62)), (1, .int a1), (2, .int a2), (3, .int a3)]) hx hb dX3_isCut_4 hl (by decide) rfl (fun ls hl => ?_)
  obtain ⟨n15, h⟩ := h
  exact (kM_isCut_L6 F hO n15) σ a1 a2 a3 0 0 H locs ls hS (lv_sub hl [2, 3, 4, 5, 1, 0] rfl) h
set_option maxHeartbeats 4000000 in
set_option maxRecDepth 100000 in
theorem tM_isCut (l : Launch) (g : MG) (hO : MOK g) (σ : MS) (a1 : Int32) (a2 : Int32) (a3 : Int32) (post : Int32 → MS → Prop) (h : wM_isCut post σ a1 a2 a3) : Met l yX3_isCut (ws_ yX3_isCut cX3_isCut 6 (some .boolean)) rM_isCut (va_Pc [.ref (mad g 62), .int a1, .int a2, .int a3] (gPre (MWd g) (mD g) (mcl g) (mty g) σ)) (va_Qi (zpost post) (gB (MWd g)) (MA g)) 0 0 (MA g) := by
  refine Met.ofW (cc := cX3_isCut) (maxL := 6) (ret := (some .boolean)) (by decide) rfl ?_
  intro p e s m args below meth c s₁ B hml hv
  obtain ⟨rfl, hW, hK⟩ := hv
  have hts := atoms_spec (ws := (ws_ yX3_isCut cX3_isCut 6 (some .boolean))) B.pre
  have hts : ∀ w ∈ lw_all, w.before _ s = true := fun w h => hts w (List.mem_cons_of_mem _ h)
  have hl := lv_entry ([.ref (mad g 62), .int a1, .int a2, .int a3]) (n := 6) (Nat.le_of_ble_eq_true rfl)
  rw [lg_entry_eq]
  generalize (lg_sl ([.ref (mad g 62), .int a1, .int a2, .int a3]) ++ List.replicate (6 - (lg_sl ([.ref (mad g 62), .int a1, .int a2, .int a3])).length) Slot.unset).toArray = ls at hl ⊢
  exact kM_isCut ⟨⟨B.exec, B.bytes, hml, findClass_of_methodNamed B.named, hts⟩, hK, B.returns, B.notSynchronized⟩ hO σ a1 a2 a3 s.heap [] ls ⟨hW, va_S.rf⟩ hl h
def wM_talks_J106 (post : MS → Prop) (K53 : MS → Int32 → Int32 → Int32 → Int32 → Prop) (σ : MS) (x25 : Int32) (x26 : Int32) (x27 : Int32) (x28 : Int32) (x29 : Int32) : Prop := (((x29 = 0 → vp_in x28 16) ∧ (¬ (x29 = 0) → vp_in x28 16 ∧ (0 ≤ (σ 53 x28.toNatClampNeg) → vp_in x28 16))) ∧ ∀ v32 : Int32, v32 = (if x29 = 0 then σ 53 x28.toNatClampNeg else if 0 ≤ (σ 53 x28.toNatClampNeg) then σ 53 x28.toNatClampNeg else x26 + 1) → (vp_in x28 16 ∧ ∀ s35 : MS, s35 = up2 σ 53 x28.toNatClampNeg v32 → ∀ x37 : Int32, x37 = x28 + 1 → K53 s35 x25 x26 x27 x37))
def wM_talks_J105 (post : MS → Prop) (K53 : MS → Int32 → Int32 → Int32 → Int32 → Prop) (σ : MS) (x21 : Int32) (x22 : Int32) (x23 : Int32) (x24 : Int32) : Prop := wM_talks_J106 post K53 σ x21 x22 x23 x24 0
def wM_talks_L53 (post : MS → Prop) (K149 : MS → Int32 → Int32 → Int32 → Prop) : Nat → MS → Int32 → Int32 → Int32 → Int32 → Prop
  | 0, _, _, _, _, _ => False
  | n + 1, σ, x12, x13, x14, x15 => ((σ 1 0) ≤ x15 → K149 σ x12 x13 x14) ∧ (¬ ((σ 1 0) ≤ x15) → (vp_in x14 16 ∧ (¬ ((σ 53 x14.toNatClampNeg) = x13) → K149 σ x12 x13 x14) ∧ ((σ 53 x14.toNatClampNeg) = x13 → (vp_in x14 16 ∧ (¬ ((((σ 8 x14.toNatClampNeg) >>> (x15 &&& 31)) &&& 1) = 1) → wM_talks_J105 post (wM_talks_L53 post K149 n) σ x12 x13 x14 x15) ∧ ((((σ 8 x14.toNatClampNeg) >>> (x15 &&& 31)) &&& 1) = 1 → wM_isCut (fun r39 s38 => (∀ v41 : Int32, v41 = (if r39 = 0 then 1 else 0) → (((v41 = 0 → vp_in x15 16) ∧ (¬ (v41 = 0) → vp_in x15 16 ∧ (0 ≤ (s38 53 x15.toNatClampNeg) → vp_in x15 16))) ∧ ∀ v45 : Int32, v45 = (if v41 = 0 then s38 53 x15.toNatClampNeg else if 0 ≤ (s38 53 x15.toNatClampNeg) then s38 53 x15.toNatClampNeg else x13 + 1) → (vp_in x15 16 ∧ ∀ s48 : MS, s48 = up2 s38 53 x15.toNatClampNeg v45 → ∀ x50 : Int32, x50 = x15 + 1 → wM_talks_L53 post K149 n s48 x12 x13 x14 x50)))) σ x14 x15 x12)))))
def wM_talks_L41 (post : MS → Prop) (K155 : MS → Int32 → Int32 → Prop) : Nat → MS → Int32 → Int32 → Int32 → Prop
  | 0, _, _, _, _ => False
  | n + 1, σ, x8, x9, x10 => ((σ 1 0) ≤ x10 → K155 σ x8 x9) ∧ (¬ ((σ 1 0) ≤ x10) → ∃ n51, wM_talks_L53 post (fun σ52 x53 x54 x55 => (∀ x56 : Int32, x56 = x55 + 1 → wM_talks_L41 post K155 n σ52 x53 x54 x56)) n51 σ x8 x9 x10 0)
def wM_talks_L32 (post : MS → Prop) : Nat → MS → Int32 → Int32 → Prop
  | 0, _, _, _ => False
  | n + 1, σ, x5, x6 => (16 ≤ x6 → post σ) ∧ (¬ (16 ≤ x6) → ∃ n57, wM_talks_L41 post (fun σ58 x59 x60 => (∀ x61 : Int32, x61 = x60 + 1 → wM_talks_L32 post n σ58 x59 x61)) n57 σ x5 x6 0)
def wM_talks_L2 (post : MS → Prop) : Nat → MS → Int32 → Int32 → Int32 → Prop
  | 0, _, _, _, _ => False
  | n + 1, σ, x1, x2, x3 => (16 ≤ x3 → ∃ n62, wM_talks_L32 post n62 σ x2 0) ∧ (¬ (16 ≤ x3) → (∀ v64 : Int32, v64 = (if x3 = x1 then 0 else (-1)) → (vp_in x3 16 ∧ ∀ s66 : MS, s66 = up2 σ 53 x3.toNatClampNeg v64 → ∀ x68 : Int32, x68 = x3 + 1 → wM_talks_L2 post n s66 x1 x2 x68)))
def wM_talks (post : MS → Prop) (σ : MS) (a1 : Int32) (a2 : Int32) : Prop := ∃ n69, wM_talks_L2 post n69 σ a1 a2 0
abbrev rM_talks : Room := { frames := 1, cells := 0, slots := 0, locals := 25 }
set_option maxHeartbeats 4000000 in
set_option maxRecDepth 100000 in
theorem kM_talks_J106 {p : Program} {l : Launch} {e : Env} {s : State} {m : MethodId} {args : Array Value} {below : List Frame} {meth : Method} {c : Code} {g : MG} {post : MS → Prop} {K53 : MS → Int32 → Int32 → Int32 → Int32 → Prop} (F : gFx p s m c meth args cX3_talks 7 RX3 none (mD g) (mcl g) (mty g)) (hO : MOK g) (hK53 : ∀ (σ : MS) (z0 : Int32) (z1 : Int32) (z2 : Int32) (z3 : Int32) (H : Heap) (locs : List Loc) (ls : Array Slot), gSt (MWd g) (MA g) s σ H locs → lv_has ls 7 [(0, .ref (mad g 62)), (2, .int z0), (3, .int z1), (4, .int z2), (5, .int z3)] → K53 σ z0 z1 z2 z3 → W p l e rM_talks s m args below meth c H locs 0 0 (MQ below (va_Qv post (gB (MWd g)) (MA g)) args s 0 0 (MA g)) (F0 m 53 ls [])) : ∀ (σ : MS) (x25 : Int32) (x26 : Int32) (x27 : Int32) (x28 : Int32) (x29 : Int32) (H : Heap) (locs : List Loc) (ls : Array Slot), gSt (MWd g) (MA g) s σ H locs → lv_has ls 7 [(0, .ref (mad g 62)), (2, .int x25), (3, .int x26), (4, .int x27), (5, .int x28)] → wM_talks_J106 post K53 σ x25 x26 x27 x28 x29 → W p l e rM_talks s m args below meth c H locs 0 0 (MQ below (va_Qv post (gB (MWd g)) (MA g)) args s 0 0 (MA g)) (F0 m 106 ls [.int x29]) := by
  have hx := F.hx
  have hb := F.hb
  have hts := F.1.2.2.2.2
  have hown := F.1.2.2.2.1
  intro σ x25 x26 x27 x28 x29 H locs ls hS hl h
  rw [wM_talks_J106] at h
  refine lv_istore (lv' := [(6, .int x29), (0, .ref (mad g 62)), (2, .int x25), (3, .int x26), (4, .int x27), (5, .int x28)]) hx hb dX3_talks_106 hl (by decide) rfl (fun ls hl => ?_)
  refine lv_aload_n hx hb dX3_talks_108 rfl (lv_at hl 1 rfl) ?_
  refine m_geta F hO hS 53 (by decide) rfl q1450 dX3_talks_109 ?_
  refine lv_iload hx hb dX3_talks_112 (lv_at hl 5 rfl) ?_
  refine lv_iload hx hb dX3_talks_114 (lv_at hl 0 rfl) ?_
  obtain ⟨b33, h⟩ := h
  refine gcut (P := ∀ (v32 : Int32) (H : Heap) (locs : List Loc) (ls : Array Slot), v32 = (if x29 = 0 then σ 53 x28.toNatClampNeg else if 0 ≤ (σ 53 x28.toNatClampNeg) then σ 53 x28.toNatClampNeg else x26 + 1) → gSt (MWd g) (MA g) s σ H locs → lv_has ls 7 [(0, .ref (mad g 62)), (2, .int x25), (3, .int x26), (4, .int x27), (5, .int x28)] → W p l e rM_talks s m args below meth c H locs 0 0 (MQ below (va_Qv post (gB (MWd g)) (MA g)) args s 0 0 (MA g)) (F0 m 142 ls [.int v32, .int x28, .ref (mad g 53)])) (fun v32 H locs ls ev32 hS hl => ?_) (fun J34 => ?_)
  · have h := h v32 ev32
    obtain ⟨b36, h⟩ := h
    refine m_iast F hO hS 53 41 rfl rfl b36 dX3_talks_142 (fun s35 es35 H locs hS => ?_)
    have h := h s35 es35
    obtain ⟨x37, ex37⟩ : ∃ y : Int32, y = x28 + 1 := ⟨_, rfl⟩
    have h := h x37 ex37
    refine lv_iinc (v := x37) (lv' := [(5, .int x37), (0, .ref (mad g 62)), (2, .int x25), (3, .int x26), (4, .int x27)]) hx hb dX3_talks_143 hl (k := 4) rfl (by rw [ex37]; rfl) (by decide) rfl (fun ls hl => ?_)
    refine lv_goto (tgt := 53) hx hb dX3_talks_146 (by decide) ?_
    exact hK53 s35 x25 x26 x27 x37 H locs ls hS (lv_sub hl [1, 2, 3, 4, 0] rfl) h
  · refine lv_if_eq (tgt := 135) hx hb dX3_talks_116 (by decide) (fun c30 => ?_) (fun c30 => ?_)
    · refine lv_aload_n hx hb dX3_talks_135 rfl (lv_at hl 1 rfl) ?_
      refine m_geta F hO hS 53 (by decide) rfl q1450 dX3_talks_136 ?_
      refine lv_iload hx hb dX3_talks_139 (lv_at hl 5 rfl) ?_
      refine m_iald F hS 53 41 rfl rfl ((b33.1 c30)) dX3_talks_141 ?_
      exact J34 _ H locs ls (by first | with_reducible rfl | ((try rw [if_pos c30]); done)) hS (lv_sub hl [1, 2, 3, 4, 5] rfl)
    · refine lv_aload_n hx hb dX3_talks_119 rfl (lv_at hl 1 rfl) ?_
      refine m_geta F hO hS 53 (by decide) rfl q1450 dX3_talks_120 ?_
      refine lv_iload hx hb dX3_talks_123 (lv_at hl 5 rfl) ?_
      refine m_iald F hS 53 41 rfl rfl ((b33.2 c30).1) dX3_talks_125 ?_
      refine lv_if_ge (tgt := 135) hx hb dX3_talks_126 (by decide) (fun c31 => ?_) (fun c31 => ?_)
      · refine lv_aload_n hx hb dX3_talks_135 rfl (lv_at hl 1 rfl) ?_
        refine m_geta F hO hS 53 (by decide) rfl q1450 dX3_talks_136 ?_
        refine lv_iload hx hb dX3_talks_139 (lv_at hl 5 rfl) ?_
        refine m_iald F hS 53 41 rfl rfl (((b33.2 c30).2 c31)) dX3_talks_141 ?_
        exact J34 _ H locs ls (by first | with_reducible rfl | ((try rw [if_neg c30]); (try rw [if_pos c31]); done)) hS (lv_sub hl [1, 2, 3, 4, 5] rfl)
      · refine lv_iload_n hx hb dX3_talks_129 rfl (lv_at hl 3 rfl) ?_
        refine lv_iconst (v := 1) hx hb dX3_talks_130 (by decide) ?_
        refine lv_iadd hx hb dX3_talks_131 ?_
        refine lv_goto (tgt := 142) hx hb dX3_talks_132 (by decide) ?_
        exact J34 _ H locs ls (by first | with_reducible rfl | ((try rw [if_neg c30]); (try rw [if_neg c31]); done)) hS (lv_sub hl [1, 2, 3, 4, 5] rfl)
set_option maxHeartbeats 4000000 in
set_option maxRecDepth 100000 in
theorem kM_talks_J105 {p : Program} {l : Launch} {e : Env} {s : State} {m : MethodId} {args : Array Value} {below : List Frame} {meth : Method} {c : Code} {g : MG} {post : MS → Prop} {K53 : MS → Int32 → Int32 → Int32 → Int32 → Prop} (F : gFx p s m c meth args cX3_talks 7 RX3 none (mD g) (mcl g) (mty g)) (hO : MOK g) (hK53 : ∀ (σ : MS) (z0 : Int32) (z1 : Int32) (z2 : Int32) (z3 : Int32) (H : Heap) (locs : List Loc) (ls : Array Slot), gSt (MWd g) (MA g) s σ H locs → lv_has ls 7 [(0, .ref (mad g 62)), (2, .int z0), (3, .int z1), (4, .int z2), (5, .int z3)] → K53 σ z0 z1 z2 z3 → W p l e rM_talks s m args below meth c H locs 0 0 (MQ below (va_Qv post (gB (MWd g)) (MA g)) args s 0 0 (MA g)) (F0 m 53 ls [])) : ∀ (σ : MS) (x21 : Int32) (x22 : Int32) (x23 : Int32) (x24 : Int32) (H : Heap) (locs : List Loc) (ls : Array Slot), gSt (MWd g) (MA g) s σ H locs → lv_has ls 7 [(0, .ref (mad g 62)), (2, .int x21), (3, .int x22), (4, .int x23), (5, .int x24)] → wM_talks_J105 post K53 σ x21 x22 x23 x24 → W p l e rM_talks s m args below meth c H locs 0 0 (MQ below (va_Qv post (gB (MWd g)) (MA g)) args s 0 0 (MA g)) (F0 m 105 ls []) := by
  have hx := F.hx
  have hb := F.hb
  have hts := F.1.2.2.2.2
  have hown := F.1.2.2.2.1
  intro σ x21 x22 x23 x24 H locs ls hS hl h
  rw [wM_talks_J105] at h
  refine lv_iconst (v := 0) hx hb dX3_talks_105 (by decide) ?_
  exact (kM_talks_J106 F hO hK53) σ x21 x22 x23 x24 0 H locs ls hS (lv_sub hl [0, 1, 2, 3, 4] rfl) h
set_option maxHeartbeats 4000000 in
set_option maxRecDepth 100000 in
theorem kM_talks_L53 {p : Program} {l : Launch} {e : Env} {s : State} {m : MethodId} {args : Array Value} {below : List Frame} {meth : Method} {c : Code} {g : MG} {post : MS → Prop} {K149 : MS → Int32 → Int32 → Int32 → Prop} (F : gFx p s m c meth args cX3_talks 7 RX3 none (mD g) (mcl g) (mty g)) (hO : MOK g) (hK149 : ∀ (σ : MS) (z0 : Int32) (z1 : Int32) (z2 : Int32) (H : Heap) (locs : List Loc) (ls : Array Slot), gSt (MWd g) (MA g) s σ H locs → lv_has ls 7 [(0, .ref (mad g 62)), (2, .int z0), (3, .int z1), (4, .int z2)] → K149 σ z0 z1 z2 → W p l e rM_talks s m args below meth c H locs 0 0 (MQ below (va_Qv post (gB (MWd g)) (MA g)) args s 0 0 (MA g)) (F0 m 149 ls [])) : ∀ (n : Nat) (σ : MS) (x12 : Int32) (x13 : Int32) (x14 : Int32) (x15 : Int32) (H : Heap) (locs : List Loc) (ls : Array Slot), gSt (MWd g) (MA g) s σ H locs → lv_has ls 7 [(0, .ref (mad g 62)), (2, .int x12), (3, .int x13), (4, .int x14), (5, .int x15)] → wM_talks_L53 post K149 n σ x12 x13 x14 x15 → W p l e rM_talks s m args below meth c H locs 0 0 (MQ below (va_Qv post (gB (MWd g)) (MA g)) args s 0 0 (MA g)) (F0 m 53 ls []) := by
  have hx := F.hx
  have hb := F.hb
  have hts := F.1.2.2.2.2
  have hown := F.1.2.2.2.1
  intro n
  induction n with
  | zero =>
    intro σ x12 x13 x14 x15 H locs ls hS hl h
    exact False.elim h
  | succ n ih =>
    intro σ x12 x13 x14 x15 H locs ls hS hl h
    rw [wM_talks_L53] at h
    refine lv_iload hx hb dX3_talks_53 (lv_at hl 4 rfl) ?_
    refine lv_aload_n hx hb dX3_talks_55 rfl (lv_at hl 0 rfl) ?_
    refine m_geti F hO hS 1 (by decide) rfl q1398 dX3_talks_56 ?_
    refine lv_icmp_ge (tgt := 149) hx hb dX3_talks_59 (by decide) (fun c16 => ?_) (fun c16 => ?_)
    · have h := h.1 c16
      exact hK149 σ x12 x13 x14 H locs ls hS (lv_sub hl [0, 1, 2, 3] rfl) h
    · have h := h.2 c16
      refine lv_aload_n hx hb dX3_talks_62 rfl (lv_at hl 0 rfl) ?_
      refine m_geta F hO hS 53 (by decide) rfl q1450 dX3_talks_63 ?_
      refine lv_iload hx hb dX3_talks_66 (lv_at hl 3 rfl) ?_
      obtain ⟨b17, h⟩ := h
      refine m_iald F hS 53 41 rfl rfl b17 dX3_talks_68 ?_
      refine lv_iload_n hx hb dX3_talks_69 rfl (lv_at hl 2 rfl) ?_
      refine lv_icmp_ne (tgt := 149) hx hb dX3_talks_70 (by decide) (fun c18 => ?_) (fun c18 => ?_)
      · have h := h.1 c18
        exact hK149 σ x12 x13 x14 H locs ls hS (lv_sub hl [0, 1, 2, 3] rfl) h
      · have h := h.2 c18
        refine lv_aload_n hx hb dX3_talks_73 rfl (lv_at hl 0 rfl) ?_
        refine m_geta F hO hS 8 (by decide) rfl q1405 dX3_talks_74 ?_
        refine lv_iload hx hb dX3_talks_77 (lv_at hl 3 rfl) ?_
        obtain ⟨b19, h⟩ := h
        refine m_iald F hS 8 6 rfl rfl b19 dX3_talks_79 ?_
        refine lv_iload hx hb dX3_talks_80 (lv_at hl 4 rfl) ?_
        refine lv_ishr hx hb dX3_talks_82 ?_
        refine lv_iconst (v := 1) hx hb dX3_talks_83 (by decide) ?_
        refine lv_iand hx hb dX3_talks_84 ?_
        refine lv_iconst (v := 1) hx hb dX3_talks_85 (by decide) ?_
        refine lv_icmp_ne (tgt := 105) hx hb dX3_talks_86 (by decide) (fun c20 => ?_) (fun c20 => ?_)
        · have h := h.1 c20
          exact (kM_talks_J105 F hO ih) σ x12 x13 x14 x15 H locs ls hS (lv_sub hl [0, 1, 2, 3, 4] rfl) h
        · have h := h.2 c20
          refine lv_aload_n hx hb dX3_talks_89 rfl (lv_at hl 0 rfl) ?_
          refine lv_iload hx hb dX3_talks_90 (lv_at hl 3 rfl) ?_
          refine lv_iload hx hb dX3_talks_92 (lv_at hl 4 rfl) ?_
          refine lv_iload_n hx hb dX3_talks_94 rfl (lv_at hl 1 rfl) ?_
          refine gw_callVi (As := [.int x14, .int x15, .int x12]) (rest := []) F hS (tM_isCut l g hO σ x14 x15 x12 _ h) (cwV 3 hts (lw_V q1938 q1940 qs79 q90 q1941) rfl rfl rfl (by decide +kernel) ⟨Nat.le_of_ble_eq_true rfl, Nat.le_of_ble_eq_true rfl⟩) (m_rec F hO hS) rfl hl.1 rfl (Nat.le_of_ble_eq_true rfl) dX3_talks_95 ⟨Nat.le_refl 0, Nat.le_refl 0⟩ (fun r39 s38 H locs h hS => ?_)
          obtain ⟨zr39, h⟩ := h
          refine gcut (P := ∀ (v41 : Int32) (H : Heap) (locs : List Loc) (ls : Array Slot), v41 = (if r39 = 0 then 1 else 0) → gSt (MWd g) (MA g) s s38 H locs → lv_has ls 7 [(0, .ref (mad g 62)), (2, .int x12), (3, .int x13), (4, .int x14), (5, .int x15)] → W p l e rM_talks s m args below meth c H locs 0 0 (MQ below (va_Qv post (gB (MWd g)) (MA g)) args s 0 0 (MA g)) (F0 m 106 ls [.int v41])) (fun v41 H locs ls ev41 hS hl => ?_) (fun J42 => ?_)
          · have h := h v41 ev41
            refine lv_istore (lv' := [(6, .int v41), (0, .ref (mad g 62)), (2, .int x12), (3, .int x13), (4, .int x14), (5, .int x15)]) hx hb dX3_talks_106 hl (by decide) rfl (fun ls hl => ?_)
            refine lv_aload_n hx hb dX3_talks_108 rfl (lv_at hl 1 rfl) ?_
            refine m_geta F hO hS 53 (by decide) rfl q1450 dX3_talks_109 ?_
            refine lv_iload hx hb dX3_talks_112 (lv_at hl 5 rfl) ?_
            refine lv_iload hx hb dX3_talks_114 (lv_at hl 0 rfl) ?_
            obtain ⟨b46, h⟩ := h
            refine gcut (P := ∀ (v45 : Int32) (H : Heap) (locs : List Loc) (ls : Array Slot), v45 = (if v41 = 0 then s38 53 x15.toNatClampNeg else if 0 ≤ (s38 53 x15.toNatClampNeg) then s38 53 x15.toNatClampNeg else x13 + 1) → gSt (MWd g) (MA g) s s38 H locs → lv_has ls 7 [(0, .ref (mad g 62)), (2, .int x12), (3, .int x13), (4, .int x14), (5, .int x15)] → W p l e rM_talks s m args below meth c H locs 0 0 (MQ below (va_Qv post (gB (MWd g)) (MA g)) args s 0 0 (MA g)) (F0 m 142 ls [.int v45, .int x15, .ref (mad g 53)])) (fun v45 H locs ls ev45 hS hl => ?_) (fun J47 => ?_)
            · have h := h v45 ev45
              obtain ⟨b49, h⟩ := h
              refine m_iast F hO hS 53 41 rfl rfl b49 dX3_talks_142 (fun s48 es48 H locs hS => ?_)
              have h := h s48 es48
              obtain ⟨x50, ex50⟩ : ∃ y : Int32, y = x15 + 1 := ⟨_, rfl⟩
              have h := h x50 ex50
              refine lv_iinc (v := x50) (lv' := [(5, .int x50), (0, .ref (mad g 62)), (2, .int x12), (3, .int x13), (4, .int x14)]) hx hb dX3_talks_143 hl (k := 4) rfl (by rw [ex50]; rfl) (by decide) rfl (fun ls hl => ?_)
              refine lv_goto (tgt := 53) hx hb dX3_talks_146 (by decide) ?_
              exact ih s48 x12 x13 x14 x50 H locs ls hS (lv_sub hl [1, 2, 3, 4, 0] rfl) h
            · refine lv_if_eq (tgt := 135) hx hb dX3_talks_116 (by decide) (fun c43 => ?_) (fun c43 => ?_)
              · refine lv_aload_n hx hb dX3_talks_135 rfl (lv_at hl 1 rfl) ?_
                refine m_geta F hO hS 53 (by decide) rfl q1450 dX3_talks_136 ?_
                refine lv_iload hx hb dX3_talks_139 (lv_at hl 5 rfl) ?_
                refine m_iald F hS 53 41 rfl rfl ((b46.1 c43)) dX3_talks_141 ?_
                exact J47 _ H locs ls (by first | with_reducible rfl | ((try rw [if_pos c43]); done)) hS (lv_sub hl [1, 2, 3, 4, 5] rfl)
              · refine lv_aload_n hx hb dX3_talks_119 rfl (lv_at hl 1 rfl) ?_
                refine m_geta F hO hS 53 (by decide) rfl q1450 dX3_talks_120 ?_
                refine lv_iload hx hb dX3_talks_123 (lv_at hl 5 rfl) ?_
                refine m_iald F hS 53 41 rfl rfl ((b46.2 c43).1) dX3_talks_125 ?_
                refine lv_if_ge (tgt := 135) hx hb dX3_talks_126 (by decide) (fun c44 => ?_) (fun c44 => ?_)
                · refine lv_aload_n hx hb dX3_talks_135 rfl (lv_at hl 1 rfl) ?_
                  refine m_geta F hO hS 53 (by decide) rfl q1450 dX3_talks_136 ?_
                  refine lv_iload hx hb dX3_talks_139 (lv_at hl 5 rfl) ?_
                  refine m_iald F hS 53 41 rfl rfl (((b46.2 c43).2 c44)) dX3_talks_141 ?_
                  exact J47 _ H locs ls (by first | with_reducible rfl | ((try rw [if_neg c43]); (try rw [if_pos c44]); done)) hS (lv_sub hl [1, 2, 3, 4, 5] rfl)
                · refine lv_iload_n hx hb dX3_talks_129 rfl (lv_at hl 3 rfl) ?_
                  refine lv_iconst (v := 1) hx hb dX3_talks_130 (by decide) ?_
                  refine lv_iadd hx hb dX3_talks_131 ?_
                  refine lv_goto (tgt := 142) hx hb dX3_talks_132 (by decide) ?_
                  exact J47 _ H locs ls (by first | with_reducible rfl | ((try rw [if_neg c43]); (try rw [if_neg c44]); done)) hS (lv_sub hl [1, 2, 3, 4, 5] rfl)
          · refine lv_if_ne (tgt := 105) hx hb dX3_talks_98 (by decide) (fun c40 => ?_) (fun c40 => ?_)
            · refine lv_iconst (v := 0) hx hb dX3_talks_105 (by decide) ?_
              exact J42 _ H locs ls (by first | with_reducible rfl | ((try rw [if_neg c40]); done)) hS (lv_sub hl [0, 1, 2, 3, 4] rfl)
            · refine lv_iconst (v := 1) hx hb dX3_talks_101 (by decide) ?_
              refine lv_goto (tgt := 106) hx hb dX3_talks_102 (by decide) ?_
              exact J42 _ H locs ls (by first | with_reducible rfl | ((try rw [if_pos c40]); done)) hS (lv_sub hl [0, 1, 2, 3, 4] rfl)
set_option maxHeartbeats 4000000 in
set_option maxRecDepth 100000 in
theorem kM_talks_L41 {p : Program} {l : Launch} {e : Env} {s : State} {m : MethodId} {args : Array Value} {below : List Frame} {meth : Method} {c : Code} {g : MG} {post : MS → Prop} {K155 : MS → Int32 → Int32 → Prop} (F : gFx p s m c meth args cX3_talks 7 RX3 none (mD g) (mcl g) (mty g)) (hO : MOK g) (hK155 : ∀ (σ : MS) (z0 : Int32) (z1 : Int32) (H : Heap) (locs : List Loc) (ls : Array Slot), gSt (MWd g) (MA g) s σ H locs → lv_has ls 7 [(0, .ref (mad g 62)), (2, .int z0), (3, .int z1)] → K155 σ z0 z1 → W p l e rM_talks s m args below meth c H locs 0 0 (MQ below (va_Qv post (gB (MWd g)) (MA g)) args s 0 0 (MA g)) (F0 m 155 ls [])) : ∀ (n : Nat) (σ : MS) (x8 : Int32) (x9 : Int32) (x10 : Int32) (H : Heap) (locs : List Loc) (ls : Array Slot), gSt (MWd g) (MA g) s σ H locs → lv_has ls 7 [(0, .ref (mad g 62)), (2, .int x8), (3, .int x9), (4, .int x10)] → wM_talks_L41 post K155 n σ x8 x9 x10 → W p l e rM_talks s m args below meth c H locs 0 0 (MQ below (va_Qv post (gB (MWd g)) (MA g)) args s 0 0 (MA g)) (F0 m 41 ls []) := by
  have hx := F.hx
  have hb := F.hb
  have hts := F.1.2.2.2.2
  have hown := F.1.2.2.2.1
  intro n
  induction n with
  | zero =>
    intro σ x8 x9 x10 H locs ls hS hl h
    exact False.elim h
  | succ n ih =>
    intro σ x8 x9 x10 H locs ls hS hl h
    rw [wM_talks_L41] at h
    refine lv_iload hx hb dX3_talks_41 (lv_at hl 3 rfl) ?_
    refine lv_aload_n hx hb dX3_talks_43 rfl (lv_at hl 0 rfl) ?_
    refine m_geti F hO hS 1 (by decide) rfl q1398 dX3_talks_44 ?_
    refine lv_icmp_ge (tgt := 155) hx hb dX3_talks_47 (by decide) (fun c11 => ?_) (fun c11 => ?_)
    · have h := h.1 c11
      exact hK155 σ x8 x9 H locs ls hS (lv_sub hl [0, 1, 2] rfl) h
    · have h := h.2 c11
      refine lv_iconst (v := 0) hx hb dX3_talks_50 (by decide) ?_
      refine lv_istore (lv' := [(5, .int 0), (0, .ref (mad g 62)), (2, .int x8), (3, .int x9), (4, .int x10)]) hx hb dX3_talks_51 hl (by decide) rfl (fun ls hl => ?_)
      obtain ⟨n51, h⟩ := h
      refine (kM_talks_L53 F hO ?_ n51) σ x8 x9 x10 0 H locs ls hS (lv_sub hl [1, 2, 3, 4, 0] rfl) h
      · intro σ52 x53 x54 x55 H locs ls hS hl h
        obtain ⟨x56, ex56⟩ : ∃ y : Int32, y = x55 + 1 := ⟨_, rfl⟩
        have h := h x56 ex56
        refine lv_iinc (v := x56) (lv' := [(4, .int x56), (0, .ref (mad g 62)), (2, .int x53), (3, .int x54)]) hx hb dX3_talks_149 hl (k := 3) rfl (by rw [ex56]; rfl) (by decide) rfl (fun ls hl => ?_)
        refine lv_goto (tgt := 41) hx hb dX3_talks_152 (by decide) ?_
        exact ih σ52 x53 x54 x56 H locs ls hS (lv_sub hl [1, 2, 3, 0] rfl) h
set_option maxHeartbeats 4000000 in
set_option maxRecDepth 100000 in
theorem kM_talks_L32 {p : Program} {l : Launch} {e : Env} {s : State} {m : MethodId} {args : Array Value} {below : List Frame} {meth : Method} {c : Code} {g : MG} {post : MS → Prop} (F : gFx p s m c meth args cX3_talks 7 RX3 none (mD g) (mcl g) (mty g)) (hO : MOK g) : ∀ (n : Nat) (σ : MS) (x5 : Int32) (x6 : Int32) (H : Heap) (locs : List Loc) (ls : Array Slot), gSt (MWd g) (MA g) s σ H locs → lv_has ls 7 [(0, .ref (mad g 62)), (2, .int x5), (3, .int x6)] → wM_talks_L32 post n σ x5 x6 → W p l e rM_talks s m args below meth c H locs 0 0 (MQ below (va_Qv post (gB (MWd g)) (MA g)) args s 0 0 (MA g)) (F0 m 32 ls []) := by
  have hx := F.hx
  have hb := F.hb
  have hts := F.1.2.2.2.2
  have hown := F.1.2.2.2.1
  intro n
  induction n with
  | zero =>
    intro σ x5 x6 H locs ls hS hl h
    exact False.elim h
  | succ n ih =>
    intro σ x5 x6 H locs ls hS hl h
    rw [wM_talks_L32] at h
    refine lv_iload_n hx hb dX3_talks_32 rfl (lv_at hl 2 rfl) ?_
    refine lv_bipush (v := 16) hx hb dX3_talks_33 (by decide) ?_
    refine lv_icmp_ge (tgt := 161) hx hb dX3_talks_35 (by decide) (fun c7 => ?_) (fun c7 => ?_)
    · have h := h.1 c7
      exact gw_vret F hS h dX3_talks_161
    · have h := h.2 c7
      refine lv_iconst (v := 0) hx hb dX3_talks_38 (by decide) ?_
      refine lv_istore (lv' := [(4, .int 0), (0, .ref (mad g 62)), (2, .int x5), (3, .int x6)]) hx hb dX3_talks_39 hl (by decide) rfl (fun ls hl => ?_)
      obtain ⟨n57, h⟩ := h
      refine (kM_talks_L41 F hO ?_ n57) σ x5 x6 0 H locs ls hS (lv_sub hl [1, 2, 3, 0] rfl) h
      · intro σ58 x59 x60 H locs ls hS hl h
        obtain ⟨x61, ex61⟩ : ∃ y : Int32, y = x60 + 1 := ⟨_, rfl⟩
        have h := h x61 ex61
        refine lv_iinc (v := x61) (lv' := [(3, .int x61), (0, .ref (mad g 62)), (2, .int x59)]) hx hb dX3_talks_155 hl (k := 2) rfl (by rw [ex61]; rfl) (by decide) rfl (fun ls hl => ?_)
        refine lv_goto (tgt := 32) hx hb dX3_talks_158 (by decide) ?_
        exact ih σ58 x59 x61 H locs ls hS (lv_sub hl [1, 2, 0] rfl) h
set_option maxHeartbeats 4000000 in
set_option maxRecDepth 100000 in
theorem kM_talks_L2 {p : Program} {l : Launch} {e : Env} {s : State} {m : MethodId} {args : Array Value} {below : List Frame} {meth : Method} {c : Code} {g : MG} {post : MS → Prop} (F : gFx p s m c meth args cX3_talks 7 RX3 none (mD g) (mcl g) (mty g)) (hO : MOK g) : ∀ (n : Nat) (σ : MS) (x1 : Int32) (x2 : Int32) (x3 : Int32) (H : Heap) (locs : List Loc) (ls : Array Slot), gSt (MWd g) (MA g) s σ H locs → lv_has ls 7 [(0, .ref (mad g 62)), (1, .int x1), (2, .int x2), (3, .int x3)] → wM_talks_L2 post n σ x1 x2 x3 → W p l e rM_talks s m args below meth c H locs 0 0 (MQ below (va_Qv post (gB (MWd g)) (MA g)) args s 0 0 (MA g)) (F0 m 2 ls []) := by
  have hx := F.hx
  have hb := F.hb
  have hts := F.1.2.2.2.2
  have hown := F.1.2.2.2.1
  intro n
  induction n with
  | zero =>
    intro σ x1 x2 x3 H locs ls hS hl h
    exact False.elim h
  | succ n ih =>
    intro σ x1 x2 x3 H locs ls hS hl h
    rw [wM_talks_L2] at h
    refine lv_iload_n hx hb dX3_talks_2 rfl (lv_at hl 3 rfl) ?_
    refine lv_bipush (v := 16) hx hb dX3_talks_3 (by decide) ?_
    refine lv_icmp_ge (tgt := 30) hx hb dX3_talks_5 (by decide) (fun c4 => ?_) (fun c4 => ?_)
    · have h := h.1 c4
      refine lv_iconst (v := 0) hx hb dX3_talks_30 (by decide) ?_
      refine lv_istore_n (lv' := [(3, .int 0), (0, .ref (mad g 62)), (1, .int x1), (2, .int x2)]) hx hb dX3_talks_31 rfl hl (by decide) rfl (fun ls hl => ?_)
      obtain ⟨n62, h⟩ := h
      exact (kM_talks_L32 F hO n62) σ x2 0 H locs ls hS (lv_sub hl [1, 3, 0] rfl) h
    · have h := h.2 c4
      refine lv_aload_n hx hb dX3_talks_8 rfl (lv_at hl 0 rfl) ?_
      refine m_geta F hO hS 53 (by decide) rfl q1450 dX3_talks_9 ?_
      refine lv_iload_n hx hb dX3_talks_12 rfl (lv_at hl 3 rfl) ?_
      refine lv_iload_n hx hb dX3_talks_13 rfl (lv_at hl 3 rfl) ?_
      refine lv_iload_n hx hb dX3_talks_14 rfl (lv_at hl 1 rfl) ?_
      refine gcut (P := ∀ (v64 : Int32) (H : Heap) (locs : List Loc) (ls : Array Slot), v64 = (if x3 = x1 then 0 else (-1)) → gSt (MWd g) (MA g) s σ H locs → lv_has ls 7 [(0, .ref (mad g 62)), (1, .int x1), (2, .int x2), (3, .int x3)] → W p l e rM_talks s m args below meth c H locs 0 0 (MQ below (va_Qv post (gB (MWd g)) (MA g)) args s 0 0 (MA g)) (F0 m 23 ls [.int v64, .int x3, .ref (mad g 53)])) (fun v64 H locs ls ev64 hS hl => ?_) (fun J65 => ?_)
      · have h := h v64 ev64
        obtain ⟨b67, h⟩ := h
        refine m_iast F hO hS 53 41 rfl rfl b67 dX3_talks_23 (fun s66 es66 H locs hS => ?_)
        have h := h s66 es66
        obtain ⟨x68, ex68⟩ : ∃ y : Int32, y = x3 + 1 := ⟨_, rfl⟩
        have h := h x68 ex68
        refine lv_iinc (v := x68) (lv' := [(3, .int x68), (0, .ref (mad g 62)), (1, .int x1), (2, .int x2)]) hx hb dX3_talks_24 hl (k := 3) rfl (by rw [ex68]; rfl) (by decide) rfl (fun ls hl => ?_)
        refine lv_goto (tgt := 2) hx hb dX3_talks_27 (by decide) ?_
        exact ih s66 x1 x2 x68 H locs ls hS (lv_sub hl [1, 2, 3, 0] rfl) h
      · refine lv_icmp_ne (tgt := 22) hx hb dX3_talks_15 (by decide) (fun c63 => ?_) (fun c63 => ?_)
        · refine lv_iconst (v := (-1)) hx hb dX3_talks_22 (by decide) ?_
          exact J65 _ H locs ls (by first | with_reducible rfl | ((try rw [if_neg c63]); done)) hS (lv_sub hl [0, 1, 2, 3] rfl)
        · refine lv_iconst (v := 0) hx hb dX3_talks_18 (by decide) ?_
          refine lv_goto (tgt := 23) hx hb dX3_talks_19 (by decide) ?_
          exact J65 _ H locs ls (by first | with_reducible rfl | ((try rw [if_pos c63]); done)) hS (lv_sub hl [0, 1, 2, 3] rfl)
set_option maxHeartbeats 4000000 in
set_option maxRecDepth 100000 in
theorem kM_talks {p : Program} {l : Launch} {e : Env} {s : State} {m : MethodId} {args : Array Value} {below : List Frame} {meth : Method} {c : Code} {g : MG} {post : MS → Prop} (F : gFx p s m c meth args cX3_talks 7 RX3 none (mD g) (mcl g) (mty g)) (hO : MOK g) (σ : MS) (a1 : Int32) (a2 : Int32) (H : Heap) (locs : List Loc) (ls : Array Slot) (hS : gSt (MWd g) (MA g) s σ H locs) (hl : lv_has ls 7 [(0, .ref (mad g 62)), (1, .int a1), (2, .int a2)]) (h : wM_talks post σ a1 a2) : W p l e rM_talks s m args below meth c H locs 0 0 (MQ below (va_Qv post (gB (MWd g)) (MA g)) args s 0 0 (MA g)) (F0 m 0 ls []) := by
  have hx := F.hx
  have hb := F.hb
  have hts := F.1.2.2.2.2
  have hown := F.1.2.2.2.1
  rw [wM_talks] at h
  refine lv_iconst (v := 0) hx hb dX3_talks_0 (by decide) ?_
  refine lv_istore_n (lv' := [(3, .int 0), (0, .ref (mad g 62)), (1, .int a1), (2, .int a2)]) hx hb dX3_talks_1 rfl hl (by decide) rfl (fun ls hl => ?_)
  obtain ⟨n69, h⟩ := h
  exact (kM_talks_L2 F hO n69) σ a1 a2 0 H locs ls hS (lv_sub hl [1, 2, 3, 0] rfl) h
set_option maxHeartbeats 4000000 in
set_option maxRecDepth 100000 in
theorem tM_talks (l : Launch) (g : MG) (hO : MOK g) (σ : MS) (a1 : Int32) (a2 : Int32) (post : MS → Prop) (h : wM_talks post σ a1 a2) : Met l yX3_talks (ws_ yX3_talks cX3_talks 7 none) rM_talks (va_Pc [.ref (mad g 62), .int a1, .int a2] (gPre (MWd g) (mD g) (mcl g) (mty g) σ)) (va_Qv post (gB (MWd g)) (MA g)) 0 0 (MA g) := by
  refine Met.ofW (cc := cX3_talks) (maxL := 7) (ret := none) (by decide) rfl ?_
  intro p e s m args below meth c s₁ B hml hv
  obtain ⟨rfl, hW, hK⟩ := hv
  have hts := atoms_spec (ws := (ws_ yX3_talks cX3_talks 7 none)) B.pre
  have hts : ∀ w ∈ lw_all, w.before _ s = true := fun w h => hts w (List.mem_cons_of_mem _ h)
  have hl := lv_entry ([.ref (mad g 62), .int a1, .int a2]) (n := 7) (Nat.le_of_ble_eq_true rfl)
  rw [lg_entry_eq]
  generalize (lg_sl ([.ref (mad g 62), .int a1, .int a2]) ++ List.replicate (7 - (lg_sl ([.ref (mad g 62), .int a1, .int a2])).length) Slot.unset).toArray = ls at hl ⊢
  exact kM_talks ⟨⟨B.exec, B.bytes, hml, findClass_of_methodNamed B.named, hts⟩, hK, B.returns, B.notSynchronized⟩ hO σ a1 a2 s.heap [] ls ⟨hW, va_S.rf⟩ hl h
def wM_talk (post : Int32 → MS → Prop) (σ : MS) (a1 : Int32) (a2 : Int32) (a3 : Int32) : Prop := wM_isPlace (fun r2 s1 => (r2 = 0 → post (-1) s1) ∧ (¬ (r2 = 0) → wM_isPlace (fun r5 s4 => (r5 = 0 → post (-1) s4) ∧ (¬ (r5 = 0) → wM_in (fun r8 s7 => (¬ (r8 = 0) → wM_isHouse (fun r11 s10 => (r11 = 0 → post (-12) s10) ∧ (¬ (r11 = 0) → wM_isHouse (fun r14 s13 => (¬ (r14 = 0) → wM_talks (fun s16 => (vp_in a2 16 ∧ (((0 ≤ (s16 53 a2.toNatClampNeg) → vp_in a2 16)) ∧ ∀ v19 : Int32, v19 = (if 0 ≤ (s16 53 a2.toNatClampNeg) then a3 * (s16 53 a2.toNatClampNeg) else (-4)) → post v19 s16))) s13 a1 0) ∧ (r14 = 0 → post (-12) s13)) s10 a2)) s7 a1) ∧ (r8 = 0 → post (-1) s7)) s4 a3.toInt64 1 100)) s1 a2)) σ a1
abbrev rM_talk : Room := { frames := 2, cells := 0, slots := 0, locals := 51 }
set_option maxHeartbeats 4000000 in
set_option maxRecDepth 100000 in
theorem kM_talk {p : Program} {l : Launch} {e : Env} {s : State} {m : MethodId} {args : Array Value} {below : List Frame} {meth : Method} {c : Code} {g : MG} {post : Int32 → MS → Prop} (F : gFx p s m c meth args cX3_talk 4 RX3 (some .int) (mD g) (mcl g) (mty g)) (hO : MOK g) (σ : MS) (a1 : Int32) (a2 : Int32) (a3 : Int32) (H : Heap) (locs : List Loc) (ls : Array Slot) (hS : gSt (MWd g) (MA g) s σ H locs) (hl : lv_has ls 4 [(0, .ref (mad g 62)), (1, .int a1), (2, .int a2), (3, .int a3)]) (h : wM_talk post σ a1 a2 a3) : W p l e rM_talk s m args below meth c H locs 0 0 (MQ below (va_Qi post (gB (MWd g)) (MA g)) args s 0 0 (MA g)) (F0 m 0 ls []) := by
  have hx := F.hx
  have hb := F.hb
  have hts := F.1.2.2.2.2
  have hown := F.1.2.2.2.1
  rw [wM_talk] at h
  refine lv_aload_n hx hb dX3_talk_0 rfl (lv_at hl 0 rfl) ?_
  refine lv_iload_n hx hb dX3_talk_1 rfl (lv_at hl 1 rfl) ?_
  refine gw_callVi (As := [.int a1]) (rest := []) F hS (tM_isPlace l g hO σ a1 _ h) (cwV 1 hts (lw_V q1618 q1620 qs40 q90 q1621) rfl rfl rfl (by decide +kernel) ⟨Nat.le_of_ble_eq_true rfl, Nat.le_of_ble_eq_true rfl⟩) (m_rec F hO hS) rfl hl.1 rfl (Nat.le_of_ble_eq_true rfl) dX3_talk_2 ⟨Nat.le_refl 0, Nat.le_refl 0⟩ (fun r2 s1 H locs h hS => ?_)
  obtain ⟨zr2, h⟩ := h
  refine lv_if_eq (tgt := 28) hx hb dX3_talk_5 (by decide) (fun c3 => ?_) (fun c3 => ?_)
  · have h := h.1 c3
    refine lv_iconst (v := (-1)) hx hb dX3_talk_28 (by decide) ?_
    exact gw_iret F hS h dX3_talk_29
  · have h := h.2 c3
    refine lv_aload_n hx hb dX3_talk_8 rfl (lv_at hl 0 rfl) ?_
    refine lv_iload_n hx hb dX3_talk_9 rfl (lv_at hl 2 rfl) ?_
    refine gw_callVi (As := [.int a2]) (rest := []) F hS (tM_isPlace l g hO s1 a2 _ h) (cwV 1 hts (lw_V q1618 q1620 qs40 q90 q1621) rfl rfl rfl (by decide +kernel) ⟨Nat.le_of_ble_eq_true rfl, Nat.le_of_ble_eq_true rfl⟩) (m_rec F hO hS) rfl hl.1 rfl (Nat.le_of_ble_eq_true rfl) dX3_talk_10 ⟨Nat.le_refl 0, Nat.le_refl 0⟩ (fun r5 s4 H locs h hS => ?_)
    obtain ⟨zr5, h⟩ := h
    refine lv_if_eq (tgt := 28) hx hb dX3_talk_13 (by decide) (fun c6 => ?_) (fun c6 => ?_)
    · have h := h.1 c6
      refine lv_iconst (v := (-1)) hx hb dX3_talk_28 (by decide) ?_
      exact gw_iret F hS h dX3_talk_29
    · have h := h.2 c6
      refine lv_iload_n hx hb dX3_talk_16 rfl (lv_at hl 3 rfl) ?_
      refine lv_i2l hx hb dX3_talk_17 rfl ?_
      refine lv_lconst (v := 1) hx hb dX3_talk_18 (by decide) ?_
      refine lv_ldc2 (v := 100) hx hb hown (hts _ q1733) dX3_talk_19 ?_
      refine gw_callSi (As := [.long a3.toInt64, .long 1, .long 100]) (rest := []) F hS (tM_in l g hO s4 a3.toInt64 1 100 _ h) (va_cwS 3 hts (lw_S q1593 q1594 q90 q1595) rfl rfl rfl (by decide +kernel) ⟨Nat.le_of_ble_eq_true rfl, Nat.le_of_ble_eq_true rfl⟩) rfl hl.1 rfl (Nat.le_of_ble_eq_true rfl) dX3_talk_22 ⟨Nat.le_refl 0, Nat.le_refl 0⟩ (fun r8 s7 H locs h hS => ?_)
      obtain ⟨zr8, h⟩ := h
      refine lv_if_ne (tgt := 30) hx hb dX3_talk_25 (by decide) (fun c9 => ?_) (fun c9 => ?_)
      · have h := h.1 c9
        refine lv_aload_n hx hb dX3_talk_30 rfl (lv_at hl 0 rfl) ?_
        refine lv_iload_n hx hb dX3_talk_31 rfl (lv_at hl 1 rfl) ?_
        refine gw_callVi (As := [.int a1]) (rest := []) F hS (tM_isHouse l g hO s7 a1 _ h) (cwV 1 hts (lw_V q1634 q1636 qs42 q90 q1637) rfl rfl rfl (by decide +kernel) ⟨Nat.le_of_ble_eq_true rfl, Nat.le_of_ble_eq_true rfl⟩) (m_rec F hO hS) rfl hl.1 rfl (Nat.le_of_ble_eq_true rfl) dX3_talk_32 ⟨Nat.le_refl 0, Nat.le_refl 0⟩ (fun r11 s10 H locs h hS => ?_)
        obtain ⟨zr11, h⟩ := h
        refine lv_if_eq (tgt := 46) hx hb dX3_talk_35 (by decide) (fun c12 => ?_) (fun c12 => ?_)
        · have h := h.1 c12
          refine lv_bipush (v := (-12)) hx hb dX3_talk_46 (by decide) ?_
          exact gw_iret F hS h dX3_talk_48
        · have h := h.2 c12
          refine lv_aload_n hx hb dX3_talk_38 rfl (lv_at hl 0 rfl) ?_
          refine lv_iload_n hx hb dX3_talk_39 rfl (lv_at hl 2 rfl) ?_
          refine gw_callVi (As := [.int a2]) (rest := []) F hS (tM_isHouse l g hO s10 a2 _ h) (cwV 1 hts (lw_V q1634 q1636 qs42 q90 q1637) rfl rfl rfl (by decide +kernel) ⟨Nat.le_of_ble_eq_true rfl, Nat.le_of_ble_eq_true rfl⟩) (m_rec F hO hS) rfl hl.1 rfl (Nat.le_of_ble_eq_true rfl) dX3_talk_40 ⟨Nat.le_refl 0, Nat.le_refl 0⟩ (fun r14 s13 H locs h hS => ?_)
          obtain ⟨zr14, h⟩ := h
          refine lv_if_ne (tgt := 49) hx hb dX3_talk_43 (by decide) (fun c15 => ?_) (fun c15 => ?_)
          · have h := h.1 c15
            refine lv_aload_n hx hb dX3_talk_49 rfl (lv_at hl 0 rfl) ?_
            refine lv_iload_n hx hb dX3_talk_50 rfl (lv_at hl 1 rfl) ?_
            refine lv_iconst (v := 0) hx hb dX3_talk_51 (by decide) ?_
            refine gw_callVv (As := [.int a1, .int 0]) (rest := []) F hS (tM_talks l g hO s13 a1 0 _ h) (cwV 2 hts (lw_V q1934 q1936 qs78 q90 q1937) rfl rfl rfl (by decide +kernel) ⟨Nat.le_of_ble_eq_true rfl, Nat.le_of_ble_eq_true rfl⟩) (m_rec F hO hS) rfl hl.1 rfl (Nat.le_of_ble_eq_true rfl) dX3_talk_52 ⟨Nat.le_refl 0, Nat.le_refl 0⟩ (fun s16 H locs h hS => ?_)
            refine lv_aload_n hx hb dX3_talk_55 rfl (lv_at hl 0 rfl) ?_
            refine m_geta F hO hS 53 (by decide) rfl q1450 dX3_talk_56 ?_
            refine lv_iload_n hx hb dX3_talk_59 rfl (lv_at hl 2 rfl) ?_
            obtain ⟨b17, h⟩ := h
            refine m_iald F hS 53 41 rfl rfl b17 dX3_talk_60 ?_
            obtain ⟨b20, h⟩ := h
            refine gcut (P := ∀ (v19 : Int32) (H : Heap) (locs : List Loc) (ls : Array Slot), v19 = (if 0 ≤ (s16 53 a2.toNatClampNeg) then a3 * (s16 53 a2.toNatClampNeg) else (-4)) → gSt (MWd g) (MA g) s s16 H locs → lv_has ls 4 [] → W p l e rM_talk s m args below meth c H locs 0 0 (MQ below (va_Qi post (gB (MWd g)) (MA g)) args s 0 0 (MA g)) (F0 m 77 ls [.int v19])) (fun v19 H locs ls ev19 hS hl => ?_) (fun J21 => ?_)
            · have h := h v19 ev19
              exact gw_iret F hS h dX3_talk_77
            · refine lv_if_ge (tgt := 69) hx hb dX3_talk_61 (by decide) (fun c18 => ?_) (fun c18 => ?_)
              · refine lv_iload_n hx hb dX3_talk_69 rfl (lv_at hl 3 rfl) ?_
                refine lv_aload_n hx hb dX3_talk_70 rfl (lv_at hl 0 rfl) ?_
                refine m_geta F hO hS 53 (by decide) rfl q1450 dX3_talk_71 ?_
                refine lv_iload_n hx hb dX3_talk_74 rfl (lv_at hl 2 rfl) ?_
                refine m_iald F hS 53 41 rfl rfl ((b20 c18)) dX3_talk_75 ?_
                refine lv_imul hx hb dX3_talk_76 ?_
                exact J21 _ H locs ls (by first | with_reducible rfl | ((try rw [if_pos c18]); done)) hS (lv_sub hl [] rfl)
              · refine lv_bipush (v := (-4)) hx hb dX3_talk_64 (by decide) ?_
                refine lv_goto (tgt := 77) hx hb dX3_talk_66 (by decide) ?_
                exact J21 _ H locs ls (by first | with_reducible rfl | ((try rw [if_neg c18]); done)) hS (lv_sub hl [] rfl)
          · have h := h.2 c15
            refine lv_bipush (v := (-12)) hx hb dX3_talk_46 (by decide) ?_
            exact gw_iret F hS h dX3_talk_48
      · have h := h.2 c9
        refine lv_iconst (v := (-1)) hx hb dX3_talk_28 (by decide) ?_
        exact gw_iret F hS h dX3_talk_29
set_option maxHeartbeats 4000000 in
set_option maxRecDepth 100000 in
theorem tM_talk (l : Launch) (g : MG) (hO : MOK g) (σ : MS) (a1 : Int32) (a2 : Int32) (a3 : Int32) (post : Int32 → MS → Prop) (h : wM_talk post σ a1 a2 a3) : Met l yX3_talk (ws_ yX3_talk cX3_talk 4 (some .int)) rM_talk (va_Pc [.ref (mad g 62), .int a1, .int a2, .int a3] (gPre (MWd g) (mD g) (mcl g) (mty g) σ)) (va_Qi post (gB (MWd g)) (MA g)) 0 0 (MA g) := by
  refine Met.ofW (cc := cX3_talk) (maxL := 4) (ret := (some .int)) (by decide) rfl ?_
  intro p e s m args below meth c s₁ B hml hv
  obtain ⟨rfl, hW, hK⟩ := hv
  have hts := atoms_spec (ws := (ws_ yX3_talk cX3_talk 4 (some .int))) B.pre
  have hts : ∀ w ∈ lw_all, w.before _ s = true := fun w h => hts w (List.mem_cons_of_mem _ h)
  have hl := lv_entry ([.ref (mad g 62), .int a1, .int a2, .int a3]) (n := 4) (Nat.le_of_ble_eq_true rfl)
  rw [lg_entry_eq]
  generalize (lg_sl ([.ref (mad g 62), .int a1, .int a2, .int a3]) ++ List.replicate (4 - (lg_sl ([.ref (mad g 62), .int a1, .int a2, .int a3])).length) Slot.unset).toArray = ls at hl ⊢
  exact kM_talk ⟨⟨B.exec, B.bytes, hml, findClass_of_methodNamed B.named, hts⟩, hK, B.returns, B.notSynchronized⟩ hO σ a1 a2 a3 s.heap [] ls ⟨hW, va_S.rf⟩ hl h
def wM_lost_L341 (post : Int32 → MS → Prop) : Nat → MS → Int32 → Int32 → Prop
  | 0, _, _, _ => False
  | n + 1, σ, x27, x28 => ((σ 1 0) ≤ x28 → post x27 σ) ∧ (¬ ((σ 1 0) ≤ x28) → (vp_in x28 16 ∧ (((¬ ((σ 53 x28.toNatClampNeg) < 0) → vp_in x28 16)) ∧ ∀ v33 : Int32, v33 = (if (σ 53 x28.toNatClampNeg) < 0 then 0 else if 0 ≤ (σ 54 x28.toNatClampNeg) then 0 else (1 : Int32) <<< (x28 &&& 31)) → (∀ x36 : Int32, x36 = x27 ||| v33 → ∀ x37 : Int32, x37 = x28 + 1 → wM_lost_L341 post n σ x36 x37))))
def wM_lost_J231 (post : Int32 → MS → Prop) (K183 : MS → Int32 → Int32 → Int32 → Int32 → Prop) (σ : MS) (x52 : Int32) (x53 : Int32) (x54 : Int32) (x55 : Int32) (x56 : Int32) : Prop := (vp_in x54 16 ∧ ∀ x58 : Int32, x58 = (σ 54 x54.toNatClampNeg) + x56 → vp_in x55 16 ∧ (((¬ ((σ 53 x55.toNatClampNeg) < 0) → vp_in x55 16)) ∧ ∀ v62 : Int32, v62 = (if (σ 53 x55.toNatClampNeg) < 0 then 1 else if (x52 * (σ 53 x55.toNatClampNeg)) ≤ x58 then 0 else 1) → (((¬ (x56 < 0) → (¬ (v62 = 0) → vp_in x55 16 ∧ ((σ 54 x55.toNatClampNeg) < 0 → vp_in x55 16) ∧ (¬ ((σ 54 x55.toNatClampNeg) < 0) → vp_in x55 16 ∧ (¬ ((σ 54 x55.toNatClampNeg) ≤ x58) → vp_in x55 16))))) ∧ ∀ v71 : Int32, v71 = (if x56 < 0 then x53 else if v62 = 0 then x53 else if (σ 54 x55.toNatClampNeg) < 0 then 1 else if (σ 54 x55.toNatClampNeg) ≤ x58 then x53 else 1) → ∀ s72 : MS, s72 = (if x56 < 0 then σ else if v62 = 0 then σ else if (σ 54 x55.toNatClampNeg) < 0 then (up2 σ 54 x55.toNatClampNeg x58) else if (σ 54 x55.toNatClampNeg) ≤ x58 then σ else (up2 σ 54 x55.toNatClampNeg x58)) → (∀ x75 : Int32, x75 = x55 + 1 → K183 s72 x52 v71 x54 x75))))
def wM_lost_L183 (post : Int32 → MS → Prop) (K326 : MS → Int32 → Int32 → Int32 → Prop) : Nat → MS → Int32 → Int32 → Int32 → Int32 → Prop
  | 0, _, _, _, _, _ => False
  | n + 1, σ, x43, x44, x45, x46 => ((σ 1 0) ≤ x46 → K326 σ x43 x44 x45) ∧ (¬ ((σ 1 0) ≤ x46) → (vp_in x45 16 ∧ ((σ 54 x45.toNatClampNeg) < 0 → K326 σ x43 x44 x45) ∧ (¬ ((σ 54 x45.toNatClampNeg) < 0) → (vp_in x45 16 ∧ (¬ ((((σ 8 x45.toNatClampNeg) >>> (x46 &&& 31)) &&& 1) = 1) → wM_lost_J231 post (wM_lost_L183 post K326 n) σ x43 x44 x45 x46 (-4)) ∧ ((((σ 8 x45.toNatClampNeg) >>> (x46 &&& 31)) &&& 1) = 1 → wM_farOf (fun r77 s76 => wM_lost_J231 post (wM_lost_L183 post K326 n) s76 x43 x44 x45 x46 r77) σ x45 x46)))))
def wM_lost_L171 (post : Int32 → MS → Prop) (K332 : MS → Int32 → Int32 → Prop) : Nat → MS → Int32 → Int32 → Int32 → Prop
  | 0, _, _, _, _ => False
  | n + 1, σ, x39, x40, x41 => ((σ 1 0) ≤ x41 → K332 σ x39 x40) ∧ (¬ ((σ 1 0) ≤ x41) → ∃ n78, wM_lost_L183 post (fun σ79 x80 x81 x82 => (∀ x83 : Int32, x83 = x82 + 1 → wM_lost_L171 post K332 n σ79 x80 x81 x83)) n78 σ x39 x40 x41 0)
def wM_lost_L160 (post : Int32 → MS → Prop) : Nat → MS → Int32 → Int32 → Prop
  | 0, _, _, _ => False
  | n + 1, σ, x24, x25 => (x25 = 0 → ∃ n38, wM_lost_L341 post n38 σ 0 0) ∧ (¬ (x25 = 0) → ∃ n84, wM_lost_L171 post (fun σ85 x86 x87 => wM_lost_L160 post n σ85 x86 x87) n84 σ x24 0 0)
def wM_lost_L112 (post : Int32 → MS → Prop) : Nat → MS → Int32 → Int32 → Int32 → Prop
  | 0, _, _, _, _ => False
  | n + 1, σ, x20, x21, x22 => (16 ≤ x22 → ∃ n88, wM_lost_L160 post n88 σ x20 1) ∧ (¬ (16 ≤ x22) → (((((x21 >>> (x22 &&& 31)) &&& 1) = 1 → vp_in x22 16)) ∧ ∀ v91 : Int32, v91 = (if ((x21 >>> (x22 &&& 31)) &&& 1) = 1 then if (σ 53 x22.toNatClampNeg) = 0 then (-1) else 0 else (-1)) → (vp_in x22 16 ∧ ∀ s94 : MS, s94 = up2 σ 54 x22.toNatClampNeg v91 → ∀ x96 : Int32, x96 = x22 + 1 → wM_lost_L112 post n s94 x20 x21 x96)))
def wM_lost_L50 (post : Int32 → MS → Prop) : Nat → MS → Int32 → Int32 → Int32 → Int32 → Int32 → Prop
  | 0, _, _, _, _, _, _ => False
  | n + 1, σ, x12, x13, x14, x15, x16 => ((σ 1 0) ≤ x16 → (¬ (x15 = 0) → wM_talks (fun s19 => ∃ n97, wM_lost_L112 post n97 s19 x13 x14 0) σ x12 0) ∧ (x15 = 0 → post (-12) σ)) ∧ (¬ ((σ 1 0) ≤ x16) → (x15 = 0 → (∀ x99 : Int32, x99 = x16 + 1 → wM_lost_L50 post n σ x12 x13 x14 0 x99)) ∧ (¬ (x15 = 0) → (((x14 >>> (x16 &&& 31)) &&& 1) = 0 → (∀ x101 : Int32, x101 = x16 + 1 → wM_lost_L50 post n σ x12 x13 x14 1 x101)) ∧ (¬ (((x14 >>> (x16 &&& 31)) &&& 1) = 0) → wM_isHouse (fun r103 s102 => (∀ v105 : Int32, v105 = (if r103 = 0 then 0 else 1) → (∀ x107 : Int32, x107 = x16 + 1 → wM_lost_L50 post n s102 x12 x13 x14 v105 x107))) σ x16)))
def wM_lost (post : Int32 → MS → Prop) (σ : MS) (a1 : Int32) (a2 : Int32) (a3 : Int32) : Prop := wM_isPlace (fun r2 s1 => (r2 = 0 → post (-1) s1) ∧ (¬ (r2 = 0) → wM_in (fun r5 s4 => (r5 = 0 → post (-1) s4) ∧ (¬ (r5 = 0) → wM_in (fun r8 s7 => (¬ (r8 = 0) → wM_isHouse (fun r11 s10 => ∃ n108, wM_lost_L50 post n108 s10 a1 a2 a3 r11 0) s7 a1) ∧ (r8 = 0 → post (-1) s7)) s4 a3.toInt64 0 ((((1 : Int32) <<< ((s4 1 0) &&& 31)) - 1).toInt64))) s1 a2.toInt64 1 100)) σ a1
abbrev rM_lost : Room := { frames := 2, cells := 0, slots := 0, locals := 51 }
set_option maxHeartbeats 4000000 in
set_option maxRecDepth 100000 in
theorem kM_lost_L341 {p : Program} {l : Launch} {e : Env} {s : State} {m : MethodId} {args : Array Value} {below : List Frame} {meth : Method} {c : Code} {g : MG} {post : Int32 → MS → Prop} (F : gFx p s m c meth args cX3_lost 11 RX3 (some .int) (mD g) (mcl g) (mty g)) (hO : MOK g) : ∀ (n : Nat) (σ : MS) (x27 : Int32) (x28 : Int32) (H : Heap) (locs : List Loc) (ls : Array Slot), gSt (MWd g) (MA g) s σ H locs → lv_has ls 11 [(0, .ref (mad g 62)), (6, .int x27), (7, .int x28)] → wM_lost_L341 post n σ x27 x28 → W p l e rM_lost s m args below meth c H locs 0 0 (MQ below (va_Qi post (gB (MWd g)) (MA g)) args s 0 0 (MA g)) (F0 m 341 ls []) := by
  have hx := F.hx
  have hb := F.hb
  have hts := F.1.2.2.2.2
  have hown := F.1.2.2.2.1
  intro n
  induction n with
  | zero =>
    intro σ x27 x28 H locs ls hS hl h
    exact False.elim h
  | succ n ih =>
    intro σ x27 x28 H locs ls hS hl h
    rw [wM_lost_L341] at h
    refine lv_iload hx hb dX3_lost_341 (lv_at hl 2 rfl) ?_
    refine lv_aload_n hx hb dX3_lost_343 rfl (lv_at hl 0 rfl) ?_
    refine m_geti F hO hS 1 (by decide) rfl q1398 dX3_lost_344 ?_
    refine lv_icmp_ge (tgt := 389) hx hb dX3_lost_347 (by decide) (fun c29 => ?_) (fun c29 => ?_)
    · have h := h.1 c29
      refine lv_iload hx hb dX3_lost_389 (lv_at hl 1 rfl) ?_
      exact gw_iret F hS h dX3_lost_391
    · have h := h.2 c29
      refine lv_iload hx hb dX3_lost_350 (lv_at hl 1 rfl) ?_
      refine lv_aload_n hx hb dX3_lost_352 rfl (lv_at hl 0 rfl) ?_
      refine m_geta F hO hS 53 (by decide) rfl q1450 dX3_lost_353 ?_
      refine lv_iload hx hb dX3_lost_356 (lv_at hl 2 rfl) ?_
      obtain ⟨b30, h⟩ := h
      refine m_iald F hS 53 41 rfl rfl b30 dX3_lost_358 ?_
      obtain ⟨b34, h⟩ := h
      refine gcut (P := ∀ (v33 : Int32) (H : Heap) (locs : List Loc) (ls : Array Slot), v33 = (if (σ 53 x28.toNatClampNeg) < 0 then 0 else if 0 ≤ (σ 54 x28.toNatClampNeg) then 0 else (1 : Int32) <<< (x28 &&& 31)) → gSt (MWd g) (MA g) s σ H locs → lv_has ls 11 [(0, .ref (mad g 62)), (7, .int x28)] → W p l e rM_lost s m args below meth c H locs 0 0 (MQ below (va_Qi post (gB (MWd g)) (MA g)) args s 0 0 (MA g)) (F0 m 380 ls [.int v33, .int x27])) (fun v33 H locs ls ev33 hS hl => ?_) (fun J35 => ?_)
      · have h := h v33 ev33
        refine lv_ior hx hb dX3_lost_380 ?_
        refine lv_topi (fun x36 ex36 => ?_)
        have h := h x36 ex36
        refine lv_istore (lv' := [(6, .int x36), (0, .ref (mad g 62)), (7, .int x28)]) hx hb dX3_lost_381 hl (by decide) rfl (fun ls hl => ?_)
        obtain ⟨x37, ex37⟩ : ∃ y : Int32, y = x28 + 1 := ⟨_, rfl⟩
        have h := h x37 ex37
        refine lv_iinc (v := x37) (lv' := [(7, .int x37), (6, .int x36), (0, .ref (mad g 62))]) hx hb dX3_lost_383 hl (k := 2) rfl (by rw [ex37]; rfl) (by decide) rfl (fun ls hl => ?_)
        refine lv_goto (tgt := 341) hx hb dX3_lost_386 (by decide) ?_
        exact ih σ x36 x37 H locs ls hS (lv_sub hl [2, 1, 0] rfl) h
      · refine lv_if_lt (tgt := 379) hx hb dX3_lost_359 (by decide) (fun c31 => ?_) (fun c31 => ?_)
        · refine lv_iconst (v := 0) hx hb dX3_lost_379 (by decide) ?_
          exact J35 _ H locs ls (by first | with_reducible rfl | ((try rw [if_pos c31]); done)) hS (lv_sub hl [0, 2] rfl)
        · refine lv_aload_n hx hb dX3_lost_362 rfl (lv_at hl 0 rfl) ?_
          refine m_geta F hO hS 54 (by decide) rfl q1451 dX3_lost_363 ?_
          refine lv_iload hx hb dX3_lost_366 (lv_at hl 2 rfl) ?_
          refine m_iald F hS 54 42 rfl rfl ((b34 c31)) dX3_lost_368 ?_
          refine lv_if_ge (tgt := 379) hx hb dX3_lost_369 (by decide) (fun c32 => ?_) (fun c32 => ?_)
          · refine lv_iconst (v := 0) hx hb dX3_lost_379 (by decide) ?_
            exact J35 _ H locs ls (by first | with_reducible rfl | ((try rw [if_neg c31]); (try rw [if_pos c32]); done)) hS (lv_sub hl [0, 2] rfl)
          · refine lv_iconst (v := 1) hx hb dX3_lost_372 (by decide) ?_
            refine lv_iload hx hb dX3_lost_373 (lv_at hl 2 rfl) ?_
            refine lv_ishl hx hb dX3_lost_375 ?_
            refine lv_goto (tgt := 380) hx hb dX3_lost_376 (by decide) ?_
            exact J35 _ H locs ls (by first | with_reducible rfl | ((try rw [if_neg c31]); (try rw [if_neg c32]); done)) hS (lv_sub hl [0, 2] rfl)
set_option maxHeartbeats 4000000 in
set_option maxRecDepth 100000 in
theorem kM_lost_J231 {p : Program} {l : Launch} {e : Env} {s : State} {m : MethodId} {args : Array Value} {below : List Frame} {meth : Method} {c : Code} {g : MG} {post : Int32 → MS → Prop} {K183 : MS → Int32 → Int32 → Int32 → Int32 → Prop} (F : gFx p s m c meth args cX3_lost 11 RX3 (some .int) (mD g) (mcl g) (mty g)) (hO : MOK g) (hK183 : ∀ (σ : MS) (z0 : Int32) (z1 : Int32) (z2 : Int32) (z3 : Int32) (H : Heap) (locs : List Loc) (ls : Array Slot), gSt (MWd g) (MA g) s σ H locs → lv_has ls 11 [(0, .ref (mad g 62)), (2, .int z0), (5, .int z1), (6, .int z2), (7, .int z3)] → K183 σ z0 z1 z2 z3 → W p l e rM_lost s m args below meth c H locs 0 0 (MQ below (va_Qi post (gB (MWd g)) (MA g)) args s 0 0 (MA g)) (F0 m 183 ls [])) : ∀ (σ : MS) (x52 : Int32) (x53 : Int32) (x54 : Int32) (x55 : Int32) (x56 : Int32) (H : Heap) (locs : List Loc) (ls : Array Slot), gSt (MWd g) (MA g) s σ H locs → lv_has ls 11 [(0, .ref (mad g 62)), (2, .int x52), (5, .int x53), (6, .int x54), (7, .int x55)] → wM_lost_J231 post K183 σ x52 x53 x54 x55 x56 → W p l e rM_lost s m args below meth c H locs 0 0 (MQ below (va_Qi post (gB (MWd g)) (MA g)) args s 0 0 (MA g)) (F0 m 231 ls [.int x56]) := by
  have hx := F.hx
  have hb := F.hb
  have hts := F.1.2.2.2.2
  have hown := F.1.2.2.2.1
  intro σ x52 x53 x54 x55 x56 H locs ls hS hl h
  rw [wM_lost_J231] at h
  refine lv_istore (lv' := [(8, .int x56), (0, .ref (mad g 62)), (2, .int x52), (5, .int x53), (6, .int x54), (7, .int x55)]) hx hb dX3_lost_231 hl (by decide) rfl (fun ls hl => ?_)
  refine lv_aload_n hx hb dX3_lost_233 rfl (lv_at hl 1 rfl) ?_
  refine m_geta F hO hS 54 (by decide) rfl q1451 dX3_lost_234 ?_
  refine lv_iload hx hb dX3_lost_237 (lv_at hl 4 rfl) ?_
  obtain ⟨b57, h⟩ := h
  refine m_iald F hS 54 42 rfl rfl b57 dX3_lost_239 ?_
  refine lv_iload hx hb dX3_lost_240 (lv_at hl 0 rfl) ?_
  refine lv_iadd hx hb dX3_lost_242 ?_
  refine lv_topi (fun x58 ex58 => ?_)
  have h := h x58 ex58
  refine lv_istore (lv' := [(9, .int x58), (8, .int x56), (0, .ref (mad g 62)), (2, .int x52), (5, .int x53), (6, .int x54), (7, .int x55)]) hx hb dX3_lost_243 hl (by decide) rfl (fun ls hl => ?_)
  refine lv_aload_n hx hb dX3_lost_245 rfl (lv_at hl 2 rfl) ?_
  refine m_geta F hO hS 53 (by decide) rfl q1450 dX3_lost_246 ?_
  refine lv_iload hx hb dX3_lost_249 (lv_at hl 6 rfl) ?_
  obtain ⟨b59, h⟩ := h
  refine m_iald F hS 53 41 rfl rfl b59 dX3_lost_251 ?_
  obtain ⟨b63, h⟩ := h
  refine gcut (P := ∀ (v62 : Int32) (H : Heap) (locs : List Loc) (ls : Array Slot), v62 = (if (σ 53 x55.toNatClampNeg) < 0 then 1 else if (x52 * (σ 53 x55.toNatClampNeg)) ≤ x58 then 0 else 1) → gSt (MWd g) (MA g) s σ H locs → lv_has ls 11 [(0, .ref (mad g 62)), (2, .int x52), (5, .int x53), (6, .int x54), (7, .int x55), (8, .int x56), (9, .int x58)] → W p l e rM_lost s m args below meth c H locs 0 0 (MQ below (va_Qi post (gB (MWd g)) (MA g)) args s 0 0 (MA g)) (F0 m 274 ls [.int v62])) (fun v62 H locs ls ev62 hS hl => ?_) (fun J64 => ?_)
  · have h := h v62 ev62
    refine lv_istore (lv' := [(10, .int v62), (0, .ref (mad g 62)), (2, .int x52), (5, .int x53), (6, .int x54), (7, .int x55), (8, .int x56), (9, .int x58)]) hx hb dX3_lost_274 hl (by decide) rfl (fun ls hl => ?_)
    refine lv_iload hx hb dX3_lost_276 (lv_at hl 6 rfl) ?_
    obtain ⟨b73, h⟩ := h
    refine gcut (P := ∀ (v71 : Int32) (s72 : MS) (H : Heap) (locs : List Loc) (ls : Array Slot), v71 = (if x56 < 0 then x53 else if v62 = 0 then x53 else if (σ 54 x55.toNatClampNeg) < 0 then 1 else if (σ 54 x55.toNatClampNeg) ≤ x58 then x53 else 1) → s72 = (if x56 < 0 then σ else if v62 = 0 then σ else if (σ 54 x55.toNatClampNeg) < 0 then (up2 σ 54 x55.toNatClampNeg x58) else if (σ 54 x55.toNatClampNeg) ≤ x58 then σ else (up2 σ 54 x55.toNatClampNeg x58)) → gSt (MWd g) (MA g) s s72 H locs → lv_has ls 11 [(0, .ref (mad g 62)), (2, .int x52), (5, .int v71), (6, .int x54), (7, .int x55)] → W p l e rM_lost s m args below meth c H locs 0 0 (MQ below (va_Qi post (gB (MWd g)) (MA g)) args s 0 0 (MA g)) (F0 m 320 ls [])) (fun v71 s72 H locs ls ev71 es72 hS hl => ?_) (fun J74 => ?_)
    · have h := h v71 ev71 s72 es72
      obtain ⟨x75, ex75⟩ : ∃ y : Int32, y = x55 + 1 := ⟨_, rfl⟩
      have h := h x75 ex75
      refine lv_iinc (v := x75) (lv' := [(7, .int x75), (0, .ref (mad g 62)), (2, .int x52), (5, .int v71), (6, .int x54)]) hx hb dX3_lost_320 hl (k := 4) rfl (by rw [ex75]; rfl) (by decide) rfl (fun ls hl => ?_)
      refine lv_goto (tgt := 183) hx hb dX3_lost_323 (by decide) ?_
      exact hK183 s72 x52 v71 x54 x75 H locs ls hS (lv_sub hl [1, 2, 3, 4, 0] rfl) h
    · refine lv_if_lt (tgt := 320) hx hb dX3_lost_278 (by decide) (fun c65 => ?_) (fun c65 => ?_)
      · exact J74 _ _ H locs ls (by first | with_reducible rfl | ((try rw [if_pos c65]); done)) (by first | with_reducible rfl | ((try rw [if_pos c65]); done)) hS (lv_sub hl [1, 2, 3, 4, 5] rfl)
      · refine lv_iload hx hb dX3_lost_281 (lv_at hl 0 rfl) ?_
        refine lv_if_eq (tgt := 320) hx hb dX3_lost_283 (by decide) (fun c66 => ?_) (fun c66 => ?_)
        · exact J74 _ _ H locs ls (by first | with_reducible rfl | ((try rw [if_neg c65]); (try rw [if_pos c66]); done)) (by first | with_reducible rfl | ((try rw [if_neg c65]); (try rw [if_pos c66]); done)) hS (lv_sub hl [1, 2, 3, 4, 5] rfl)
        · refine lv_aload_n hx hb dX3_lost_286 rfl (lv_at hl 1 rfl) ?_
          refine m_geta F hO hS 54 (by decide) rfl q1451 dX3_lost_287 ?_
          refine lv_iload hx hb dX3_lost_290 (lv_at hl 5 rfl) ?_
          refine m_iald F hS 54 42 rfl rfl (((b73 c65) c66).1) dX3_lost_292 ?_
          refine lv_if_lt (tgt := 308) hx hb dX3_lost_293 (by decide) (fun c67 => ?_) (fun c67 => ?_)
          · refine lv_aload_n hx hb dX3_lost_308 rfl (lv_at hl 1 rfl) ?_
            refine m_geta F hO hS 54 (by decide) rfl q1451 dX3_lost_309 ?_
            refine lv_iload hx hb dX3_lost_312 (lv_at hl 5 rfl) ?_
            refine lv_iload hx hb dX3_lost_314 (lv_at hl 7 rfl) ?_
            refine m_iast F hO hS 54 42 rfl rfl ((((b73 c65) c66).2.1 c67)) dX3_lost_316 (fun s68 es68 H locs hS => ?_)
            subst es68
            refine lv_iconst (v := 1) hx hb dX3_lost_317 (by decide) ?_
            refine lv_istore (lv' := [(5, .int 1), (10, .int v62), (0, .ref (mad g 62)), (2, .int x52), (6, .int x54), (7, .int x55), (8, .int x56), (9, .int x58)]) hx hb dX3_lost_318 hl (by decide) rfl (fun ls hl => ?_)
            exact J74 _ _ H locs ls (by first | with_reducible rfl | ((try rw [if_neg c65]); (try rw [if_neg c66]); (try rw [if_pos c67]); done)) (by first | with_reducible rfl | ((try rw [if_neg c65]); (try rw [if_neg c66]); (try rw [if_pos c67]); done)) hS (lv_sub hl [2, 3, 0, 4, 5] rfl)
          · refine lv_iload hx hb dX3_lost_296 (lv_at hl 7 rfl) ?_
            refine lv_aload_n hx hb dX3_lost_298 rfl (lv_at hl 1 rfl) ?_
            refine m_geta F hO hS 54 (by decide) rfl q1451 dX3_lost_299 ?_
            refine lv_iload hx hb dX3_lost_302 (lv_at hl 5 rfl) ?_
            refine m_iald F hS 54 42 rfl rfl ((((b73 c65) c66).2.2 c67).1) dX3_lost_304 ?_
            refine lv_icmp_ge (tgt := 320) hx hb dX3_lost_305 (by decide) (fun c69 => ?_) (fun c69 => ?_)
            · exact J74 _ _ H locs ls (by first | with_reducible rfl | ((try rw [if_neg c65]); (try rw [if_neg c66]); (try rw [if_neg c67]); (try rw [if_pos c69]); done)) (by first | with_reducible rfl | ((try rw [if_neg c65]); (try rw [if_neg c66]); (try rw [if_neg c67]); (try rw [if_pos c69]); done)) hS (lv_sub hl [1, 2, 3, 4, 5] rfl)
            · refine lv_aload_n hx hb dX3_lost_308 rfl (lv_at hl 1 rfl) ?_
              refine m_geta F hO hS 54 (by decide) rfl q1451 dX3_lost_309 ?_
              refine lv_iload hx hb dX3_lost_312 (lv_at hl 5 rfl) ?_
              refine lv_iload hx hb dX3_lost_314 (lv_at hl 7 rfl) ?_
              refine m_iast F hO hS 54 42 rfl rfl (((((b73 c65) c66).2.2 c67).2 c69)) dX3_lost_316 (fun s70 es70 H locs hS => ?_)
              subst es70
              refine lv_iconst (v := 1) hx hb dX3_lost_317 (by decide) ?_
              refine lv_istore (lv' := [(5, .int 1), (10, .int v62), (0, .ref (mad g 62)), (2, .int x52), (6, .int x54), (7, .int x55), (8, .int x56), (9, .int x58)]) hx hb dX3_lost_318 hl (by decide) rfl (fun ls hl => ?_)
              exact J74 _ _ H locs ls (by first | with_reducible rfl | ((try rw [if_neg c65]); (try rw [if_neg c66]); (try rw [if_neg c67]); (try rw [if_neg c69]); done)) (by first | with_reducible rfl | ((try rw [if_neg c65]); (try rw [if_neg c66]); (try rw [if_neg c67]); (try rw [if_neg c69]); done)) hS (lv_sub hl [2, 3, 0, 4, 5] rfl)
  · refine lv_if_lt (tgt := 269) hx hb dX3_lost_252 (by decide) (fun c60 => ?_) (fun c60 => ?_)
    · refine lv_iconst (v := 1) hx hb dX3_lost_269 (by decide) ?_
      refine lv_goto (tgt := 274) hx hb dX3_lost_270 (by decide) ?_
      exact J64 _ H locs ls (by first | with_reducible rfl | ((try rw [if_pos c60]); done)) hS (lv_sub hl [2, 3, 4, 5, 6, 1, 0] rfl)
    · refine lv_iload hx hb dX3_lost_255 (lv_at hl 0 rfl) ?_
      refine lv_iload_n hx hb dX3_lost_257 rfl (lv_at hl 3 rfl) ?_
      refine lv_aload_n hx hb dX3_lost_258 rfl (lv_at hl 2 rfl) ?_
      refine m_geta F hO hS 53 (by decide) rfl q1450 dX3_lost_259 ?_
      refine lv_iload hx hb dX3_lost_262 (lv_at hl 6 rfl) ?_
      refine m_iald F hS 53 41 rfl rfl ((b63 c60)) dX3_lost_264 ?_
      refine lv_imul hx hb dX3_lost_265 ?_
      refine lv_icmp_ge (tgt := 273) hx hb dX3_lost_266 (by decide) (fun c61 => ?_) (fun c61 => ?_)
      · refine lv_iconst (v := 0) hx hb dX3_lost_273 (by decide) ?_
        exact J64 _ H locs ls (by first | with_reducible rfl | ((try rw [if_neg c60]); (try rw [if_pos c61]); done)) hS (lv_sub hl [2, 3, 4, 5, 6, 1, 0] rfl)
      · refine lv_iconst (v := 1) hx hb dX3_lost_269 (by decide) ?_
        refine lv_goto (tgt := 274) hx hb dX3_lost_270 (by decide) ?_
        exact J64 _ H locs ls (by first | with_reducible rfl | ((try rw [if_neg c60]); (try rw [if_neg c61]); done)) hS (lv_sub hl [2, 3, 4, 5, 6, 1, 0] rfl)
set_option maxHeartbeats 4000000 in
set_option maxRecDepth 100000 in
theorem kM_lost_L183 {p : Program} {l : Launch} {e : Env} {s : State} {m : MethodId} {args : Array Value} {below : List Frame} {meth : Method} {c : Code} {g : MG} {post : Int32 → MS → Prop} {K326 : MS → Int32 → Int32 → Int32 → Prop} (F : gFx p s m c meth args cX3_lost 11 RX3 (some .int) (mD g) (mcl g) (mty g)) (hO : MOK g) (hK326 : ∀ (σ : MS) (z0 : Int32) (z1 : Int32) (z2 : Int32) (H : Heap) (locs : List Loc) (ls : Array Slot), gSt (MWd g) (MA g) s σ H locs → lv_has ls 11 [(0, .ref (mad g 62)), (2, .int z0), (5, .int z1), (6, .int z2)] → K326 σ z0 z1 z2 → W p l e rM_lost s m args below meth c H locs 0 0 (MQ below (va_Qi post (gB (MWd g)) (MA g)) args s 0 0 (MA g)) (F0 m 326 ls [])) : ∀ (n : Nat) (σ : MS) (x43 : Int32) (x44 : Int32) (x45 : Int32) (x46 : Int32) (H : Heap) (locs : List Loc) (ls : Array Slot), gSt (MWd g) (MA g) s σ H locs → lv_has ls 11 [(0, .ref (mad g 62)), (2, .int x43), (5, .int x44), (6, .int x45), (7, .int x46)] → wM_lost_L183 post K326 n σ x43 x44 x45 x46 → W p l e rM_lost s m args below meth c H locs 0 0 (MQ below (va_Qi post (gB (MWd g)) (MA g)) args s 0 0 (MA g)) (F0 m 183 ls []) := by
  have hx := F.hx
  have hb := F.hb
  have hts := F.1.2.2.2.2
  have hown := F.1.2.2.2.1
  intro n
  induction n with
  | zero =>
    intro σ x43 x44 x45 x46 H locs ls hS hl h
    exact False.elim h
  | succ n ih =>
    intro σ x43 x44 x45 x46 H locs ls hS hl h
    rw [wM_lost_L183] at h
    refine lv_iload hx hb dX3_lost_183 (lv_at hl 4 rfl) ?_
    refine lv_aload_n hx hb dX3_lost_185 rfl (lv_at hl 0 rfl) ?_
    refine m_geti F hO hS 1 (by decide) rfl q1398 dX3_lost_186 ?_
    refine lv_icmp_ge (tgt := 326) hx hb dX3_lost_189 (by decide) (fun c47 => ?_) (fun c47 => ?_)
    · have h := h.1 c47
      exact hK326 σ x43 x44 x45 H locs ls hS (lv_sub hl [0, 1, 2, 3] rfl) h
    · have h := h.2 c47
      refine lv_aload_n hx hb dX3_lost_192 rfl (lv_at hl 0 rfl) ?_
      refine m_geta F hO hS 54 (by decide) rfl q1451 dX3_lost_193 ?_
      refine lv_iload hx hb dX3_lost_196 (lv_at hl 3 rfl) ?_
      obtain ⟨b48, h⟩ := h
      refine m_iald F hS 54 42 rfl rfl b48 dX3_lost_198 ?_
      refine lv_if_lt (tgt := 326) hx hb dX3_lost_199 (by decide) (fun c49 => ?_) (fun c49 => ?_)
      · have h := h.1 c49
        exact hK326 σ x43 x44 x45 H locs ls hS (lv_sub hl [0, 1, 2, 3] rfl) h
      · have h := h.2 c49
        refine lv_aload_n hx hb dX3_lost_202 rfl (lv_at hl 0 rfl) ?_
        refine m_geta F hO hS 8 (by decide) rfl q1405 dX3_lost_203 ?_
        refine lv_iload hx hb dX3_lost_206 (lv_at hl 3 rfl) ?_
        obtain ⟨b50, h⟩ := h
        refine m_iald F hS 8 6 rfl rfl b50 dX3_lost_208 ?_
        refine lv_iload hx hb dX3_lost_209 (lv_at hl 4 rfl) ?_
        refine lv_ishr hx hb dX3_lost_211 ?_
        refine lv_iconst (v := 1) hx hb dX3_lost_212 (by decide) ?_
        refine lv_iand hx hb dX3_lost_213 ?_
        refine lv_iconst (v := 1) hx hb dX3_lost_214 (by decide) ?_
        refine lv_icmp_ne (tgt := 229) hx hb dX3_lost_215 (by decide) (fun c51 => ?_) (fun c51 => ?_)
        · have h := h.1 c51
          refine lv_bipush (v := (-4)) hx hb dX3_lost_229 (by decide) ?_
          exact (kM_lost_J231 F hO ih) σ x43 x44 x45 x46 (-4) H locs ls hS (lv_sub hl [0, 1, 2, 3, 4] rfl) h
        · have h := h.2 c51
          refine lv_aload_n hx hb dX3_lost_218 rfl (lv_at hl 0 rfl) ?_
          refine lv_iload hx hb dX3_lost_219 (lv_at hl 3 rfl) ?_
          refine lv_iload hx hb dX3_lost_221 (lv_at hl 4 rfl) ?_
          refine gw_callVi (As := [.int x45, .int x46]) (rest := []) F hS (tM_farOf l g hO σ x45 x46 _ h) (cwV 2 hts (lw_V q1626 q1628 qs41 q90 q1629) rfl rfl rfl (by decide +kernel) ⟨Nat.le_of_ble_eq_true rfl, Nat.le_of_ble_eq_true rfl⟩) (m_rec F hO hS) rfl hl.1 rfl (Nat.le_of_ble_eq_true rfl) dX3_lost_223 ⟨Nat.le_refl 0, Nat.le_refl 0⟩ (fun r77 s76 H locs h hS => ?_)
          refine lv_goto (tgt := 231) hx hb dX3_lost_226 (by decide) ?_
          exact (kM_lost_J231 F hO ih) s76 x43 x44 x45 x46 r77 H locs ls hS (lv_sub hl [0, 1, 2, 3, 4] rfl) h
set_option maxHeartbeats 4000000 in
set_option maxRecDepth 100000 in
theorem kM_lost_L171 {p : Program} {l : Launch} {e : Env} {s : State} {m : MethodId} {args : Array Value} {below : List Frame} {meth : Method} {c : Code} {g : MG} {post : Int32 → MS → Prop} {K332 : MS → Int32 → Int32 → Prop} (F : gFx p s m c meth args cX3_lost 11 RX3 (some .int) (mD g) (mcl g) (mty g)) (hO : MOK g) (hK332 : ∀ (σ : MS) (z0 : Int32) (z1 : Int32) (H : Heap) (locs : List Loc) (ls : Array Slot), gSt (MWd g) (MA g) s σ H locs → lv_has ls 11 [(0, .ref (mad g 62)), (2, .int z0), (5, .int z1)] → K332 σ z0 z1 → W p l e rM_lost s m args below meth c H locs 0 0 (MQ below (va_Qi post (gB (MWd g)) (MA g)) args s 0 0 (MA g)) (F0 m 332 ls [])) : ∀ (n : Nat) (σ : MS) (x39 : Int32) (x40 : Int32) (x41 : Int32) (H : Heap) (locs : List Loc) (ls : Array Slot), gSt (MWd g) (MA g) s σ H locs → lv_has ls 11 [(0, .ref (mad g 62)), (2, .int x39), (5, .int x40), (6, .int x41)] → wM_lost_L171 post K332 n σ x39 x40 x41 → W p l e rM_lost s m args below meth c H locs 0 0 (MQ below (va_Qi post (gB (MWd g)) (MA g)) args s 0 0 (MA g)) (F0 m 171 ls []) := by
  have hx := F.hx
  have hb := F.hb
  have hts := F.1.2.2.2.2
  have hown := F.1.2.2.2.1
  intro n
  induction n with
  | zero =>
    intro σ x39 x40 x41 H locs ls hS hl h
    exact False.elim h
  | succ n ih =>
    intro σ x39 x40 x41 H locs ls hS hl h
    rw [wM_lost_L171] at h
    refine lv_iload hx hb dX3_lost_171 (lv_at hl 3 rfl) ?_
    refine lv_aload_n hx hb dX3_lost_173 rfl (lv_at hl 0 rfl) ?_
    refine m_geti F hO hS 1 (by decide) rfl q1398 dX3_lost_174 ?_
    refine lv_icmp_ge (tgt := 332) hx hb dX3_lost_177 (by decide) (fun c42 => ?_) (fun c42 => ?_)
    · have h := h.1 c42
      exact hK332 σ x39 x40 H locs ls hS (lv_sub hl [0, 1, 2] rfl) h
    · have h := h.2 c42
      refine lv_iconst (v := 0) hx hb dX3_lost_180 (by decide) ?_
      refine lv_istore (lv' := [(7, .int 0), (0, .ref (mad g 62)), (2, .int x39), (5, .int x40), (6, .int x41)]) hx hb dX3_lost_181 hl (by decide) rfl (fun ls hl => ?_)
      obtain ⟨n78, h⟩ := h
      refine (kM_lost_L183 F hO ?_ n78) σ x39 x40 x41 0 H locs ls hS (lv_sub hl [1, 2, 3, 4, 0] rfl) h
      · intro σ79 x80 x81 x82 H locs ls hS hl h
        obtain ⟨x83, ex83⟩ : ∃ y : Int32, y = x82 + 1 := ⟨_, rfl⟩
        have h := h x83 ex83
        refine lv_iinc (v := x83) (lv' := [(6, .int x83), (0, .ref (mad g 62)), (2, .int x80), (5, .int x81)]) hx hb dX3_lost_326 hl (k := 3) rfl (by rw [ex83]; rfl) (by decide) rfl (fun ls hl => ?_)
        refine lv_goto (tgt := 171) hx hb dX3_lost_329 (by decide) ?_
        exact ih σ79 x80 x81 x83 H locs ls hS (lv_sub hl [1, 2, 3, 0] rfl) h
set_option maxHeartbeats 4000000 in
set_option maxRecDepth 100000 in
theorem kM_lost_L160 {p : Program} {l : Launch} {e : Env} {s : State} {m : MethodId} {args : Array Value} {below : List Frame} {meth : Method} {c : Code} {g : MG} {post : Int32 → MS → Prop} (F : gFx p s m c meth args cX3_lost 11 RX3 (some .int) (mD g) (mcl g) (mty g)) (hO : MOK g) : ∀ (n : Nat) (σ : MS) (x24 : Int32) (x25 : Int32) (H : Heap) (locs : List Loc) (ls : Array Slot), gSt (MWd g) (MA g) s σ H locs → lv_has ls 11 [(0, .ref (mad g 62)), (2, .int x24), (5, .int x25)] → wM_lost_L160 post n σ x24 x25 → W p l e rM_lost s m args below meth c H locs 0 0 (MQ below (va_Qi post (gB (MWd g)) (MA g)) args s 0 0 (MA g)) (F0 m 160 ls []) := by
  have hx := F.hx
  have hb := F.hb
  have hts := F.1.2.2.2.2
  have hown := F.1.2.2.2.1
  intro n
  induction n with
  | zero =>
    intro σ x24 x25 H locs ls hS hl h
    exact False.elim h
  | succ n ih =>
    intro σ x24 x25 H locs ls hS hl h
    rw [wM_lost_L160] at h
    refine lv_iload hx hb dX3_lost_160 (lv_at hl 2 rfl) ?_
    refine lv_if_eq (tgt := 335) hx hb dX3_lost_162 (by decide) (fun c26 => ?_) (fun c26 => ?_)
    · have h := h.1 c26
      refine lv_iconst (v := 0) hx hb dX3_lost_335 (by decide) ?_
      refine lv_istore (lv' := [(6, .int 0), (0, .ref (mad g 62)), (2, .int x24), (5, .int x25)]) hx hb dX3_lost_336 hl (by decide) rfl (fun ls hl => ?_)
      refine lv_iconst (v := 0) hx hb dX3_lost_338 (by decide) ?_
      refine lv_istore (lv' := [(7, .int 0), (6, .int 0), (0, .ref (mad g 62)), (2, .int x24), (5, .int x25)]) hx hb dX3_lost_339 hl (by decide) rfl (fun ls hl => ?_)
      obtain ⟨n38, h⟩ := h
      exact (kM_lost_L341 F hO n38) σ 0 0 H locs ls hS (lv_sub hl [2, 1, 0] rfl) h
    · have h := h.2 c26
      refine lv_iconst (v := 0) hx hb dX3_lost_165 (by decide) ?_
      refine lv_istore (lv' := [(5, .int 0), (0, .ref (mad g 62)), (2, .int x24)]) hx hb dX3_lost_166 hl (by decide) rfl (fun ls hl => ?_)
      refine lv_iconst (v := 0) hx hb dX3_lost_168 (by decide) ?_
      refine lv_istore (lv' := [(6, .int 0), (5, .int 0), (0, .ref (mad g 62)), (2, .int x24)]) hx hb dX3_lost_169 hl (by decide) rfl (fun ls hl => ?_)
      obtain ⟨n84, h⟩ := h
      refine (kM_lost_L171 F hO ?_ n84) σ x24 0 0 H locs ls hS (lv_sub hl [2, 3, 1, 0] rfl) h
      · intro σ85 x86 x87 H locs ls hS hl h
        refine lv_goto (tgt := 160) hx hb dX3_lost_332 (by decide) ?_
        exact ih σ85 x86 x87 H locs ls hS (lv_sub hl [0, 1, 2] rfl) h
set_option maxHeartbeats 4000000 in
set_option maxRecDepth 100000 in
theorem kM_lost_L112 {p : Program} {l : Launch} {e : Env} {s : State} {m : MethodId} {args : Array Value} {below : List Frame} {meth : Method} {c : Code} {g : MG} {post : Int32 → MS → Prop} (F : gFx p s m c meth args cX3_lost 11 RX3 (some .int) (mD g) (mcl g) (mty g)) (hO : MOK g) : ∀ (n : Nat) (σ : MS) (x20 : Int32) (x21 : Int32) (x22 : Int32) (H : Heap) (locs : List Loc) (ls : Array Slot), gSt (MWd g) (MA g) s σ H locs → lv_has ls 11 [(0, .ref (mad g 62)), (2, .int x20), (3, .int x21), (5, .int x22)] → wM_lost_L112 post n σ x20 x21 x22 → W p l e rM_lost s m args below meth c H locs 0 0 (MQ below (va_Qi post (gB (MWd g)) (MA g)) args s 0 0 (MA g)) (F0 m 112 ls []) := by
  have hx := F.hx
  have hb := F.hb
  have hts := F.1.2.2.2.2
  have hown := F.1.2.2.2.1
  intro n
  induction n with
  | zero =>
    intro σ x20 x21 x22 H locs ls hS hl h
    exact False.elim h
  | succ n ih =>
    intro σ x20 x21 x22 H locs ls hS hl h
    rw [wM_lost_L112] at h
    refine lv_iload hx hb dX3_lost_112 (lv_at hl 3 rfl) ?_
    refine lv_bipush (v := 16) hx hb dX3_lost_114 (by decide) ?_
    refine lv_icmp_ge (tgt := 157) hx hb dX3_lost_116 (by decide) (fun c23 => ?_) (fun c23 => ?_)
    · have h := h.1 c23
      refine lv_iconst (v := 1) hx hb dX3_lost_157 (by decide) ?_
      refine lv_istore (lv' := [(5, .int 1), (0, .ref (mad g 62)), (2, .int x20), (3, .int x21)]) hx hb dX3_lost_158 hl (by decide) rfl (fun ls hl => ?_)
      obtain ⟨n88, h⟩ := h
      exact (kM_lost_L160 F hO n88) σ x20 1 H locs ls hS (lv_sub hl [1, 2, 0] rfl) h
    · have h := h.2 c23
      refine lv_aload_n hx hb dX3_lost_119 rfl (lv_at hl 0 rfl) ?_
      refine m_geta F hO hS 54 (by decide) rfl q1451 dX3_lost_120 ?_
      refine lv_iload hx hb dX3_lost_123 (lv_at hl 3 rfl) ?_
      refine lv_iload_n hx hb dX3_lost_125 rfl (lv_at hl 2 rfl) ?_
      refine lv_iload hx hb dX3_lost_126 (lv_at hl 3 rfl) ?_
      refine lv_ishr hx hb dX3_lost_128 ?_
      refine lv_iconst (v := 1) hx hb dX3_lost_129 (by decide) ?_
      refine lv_iand hx hb dX3_lost_130 ?_
      refine lv_iconst (v := 1) hx hb dX3_lost_131 (by decide) ?_
      obtain ⟨b92, h⟩ := h
      refine gcut (P := ∀ (v91 : Int32) (H : Heap) (locs : List Loc) (ls : Array Slot), v91 = (if ((x21 >>> (x22 &&& 31)) &&& 1) = 1 then if (σ 53 x22.toNatClampNeg) = 0 then (-1) else 0 else (-1)) → gSt (MWd g) (MA g) s σ H locs → lv_has ls 11 [(0, .ref (mad g 62)), (2, .int x20), (3, .int x21), (5, .int x22)] → W p l e rM_lost s m args below meth c H locs 0 0 (MQ below (va_Qi post (gB (MWd g)) (MA g)) args s 0 0 (MA g)) (F0 m 150 ls [.int v91, .int x22, .ref (mad g 54)])) (fun v91 H locs ls ev91 hS hl => ?_) (fun J93 => ?_)
      · have h := h v91 ev91
        obtain ⟨b95, h⟩ := h
        refine m_iast F hO hS 54 42 rfl rfl b95 dX3_lost_150 (fun s94 es94 H locs hS => ?_)
        have h := h s94 es94
        obtain ⟨x96, ex96⟩ : ∃ y : Int32, y = x22 + 1 := ⟨_, rfl⟩
        have h := h x96 ex96
        refine lv_iinc (v := x96) (lv' := [(5, .int x96), (0, .ref (mad g 62)), (2, .int x20), (3, .int x21)]) hx hb dX3_lost_151 hl (k := 3) rfl (by rw [ex96]; rfl) (by decide) rfl (fun ls hl => ?_)
        refine lv_goto (tgt := 112) hx hb dX3_lost_154 (by decide) ?_
        exact ih s94 x20 x21 x96 H locs ls hS (lv_sub hl [1, 2, 3, 0] rfl) h
      · refine lv_icmp_ne (tgt := 149) hx hb dX3_lost_132 (by decide) (fun c89 => ?_) (fun c89 => ?_)
        · refine lv_iconst (v := (-1)) hx hb dX3_lost_149 (by decide) ?_
          exact J93 _ H locs ls (by first | with_reducible rfl | ((try rw [if_neg c89]); done)) hS (lv_sub hl [0, 1, 2, 3] rfl)
        · refine lv_aload_n hx hb dX3_lost_135 rfl (lv_at hl 0 rfl) ?_
          refine m_geta F hO hS 53 (by decide) rfl q1450 dX3_lost_136 ?_
          refine lv_iload hx hb dX3_lost_139 (lv_at hl 3 rfl) ?_
          refine m_iald F hS 53 41 rfl rfl ((b92 c89)) dX3_lost_141 ?_
          refine lv_if_eq (tgt := 149) hx hb dX3_lost_142 (by decide) (fun c90 => ?_) (fun c90 => ?_)
          · refine lv_iconst (v := (-1)) hx hb dX3_lost_149 (by decide) ?_
            exact J93 _ H locs ls (by first | with_reducible rfl | ((try rw [if_pos c89]); (try rw [if_pos c90]); done)) hS (lv_sub hl [0, 1, 2, 3] rfl)
          · refine lv_iconst (v := 0) hx hb dX3_lost_145 (by decide) ?_
            refine lv_goto (tgt := 150) hx hb dX3_lost_146 (by decide) ?_
            exact J93 _ H locs ls (by first | with_reducible rfl | ((try rw [if_pos c89]); (try rw [if_neg c90]); done)) hS (lv_sub hl [0, 1, 2, 3] rfl)
set_option maxHeartbeats 4000000 in
set_option maxRecDepth 100000 in
theorem kM_lost_L50 {p : Program} {l : Launch} {e : Env} {s : State} {m : MethodId} {args : Array Value} {below : List Frame} {meth : Method} {c : Code} {g : MG} {post : Int32 → MS → Prop} (F : gFx p s m c meth args cX3_lost 11 RX3 (some .int) (mD g) (mcl g) (mty g)) (hO : MOK g) : ∀ (n : Nat) (σ : MS) (x12 : Int32) (x13 : Int32) (x14 : Int32) (x15 : Int32) (x16 : Int32) (H : Heap) (locs : List Loc) (ls : Array Slot), gSt (MWd g) (MA g) s σ H locs → lv_has ls 11 [(0, .ref (mad g 62)), (1, .int x12), (2, .int x13), (3, .int x14), (4, .int x15), (5, .int x16)] → wM_lost_L50 post n σ x12 x13 x14 x15 x16 → W p l e rM_lost s m args below meth c H locs 0 0 (MQ below (va_Qi post (gB (MWd g)) (MA g)) args s 0 0 (MA g)) (F0 m 50 ls []) := by
  have hx := F.hx
  have hb := F.hb
  have hts := F.1.2.2.2.2
  have hown := F.1.2.2.2.1
  intro n
  induction n with
  | zero =>
    intro σ x12 x13 x14 x15 x16 H locs ls hS hl h
    exact False.elim h
  | succ n ih =>
    intro σ x12 x13 x14 x15 x16 H locs ls hS hl h
    rw [wM_lost_L50] at h
    refine lv_iload hx hb dX3_lost_50 (lv_at hl 5 rfl) ?_
    refine lv_aload_n hx hb dX3_lost_52 rfl (lv_at hl 0 rfl) ?_
    refine m_geti F hO hS 1 (by decide) rfl q1398 dX3_lost_53 ?_
    refine lv_icmp_ge (tgt := 95) hx hb dX3_lost_56 (by decide) (fun c17 => ?_) (fun c17 => ?_)
    · have h := h.1 c17
      refine lv_iload hx hb dX3_lost_95 (lv_at hl 4 rfl) ?_
      refine lv_if_ne (tgt := 103) hx hb dX3_lost_97 (by decide) (fun c18 => ?_) (fun c18 => ?_)
      · have h := h.1 c18
        refine lv_aload_n hx hb dX3_lost_103 rfl (lv_at hl 0 rfl) ?_
        refine lv_iload_n hx hb dX3_lost_104 rfl (lv_at hl 1 rfl) ?_
        refine lv_iconst (v := 0) hx hb dX3_lost_105 (by decide) ?_
        refine gw_callVv (As := [.int x12, .int 0]) (rest := []) F hS (tM_talks l g hO σ x12 0 _ h) (cwV 2 hts (lw_V q1934 q1936 qs78 q90 q1937) rfl rfl rfl (by decide +kernel) ⟨Nat.le_of_ble_eq_true rfl, Nat.le_of_ble_eq_true rfl⟩) (m_rec F hO hS) rfl hl.1 rfl (Nat.le_of_ble_eq_true rfl) dX3_lost_106 ⟨Nat.le_refl 0, Nat.le_refl 0⟩ (fun s19 H locs h hS => ?_)
        refine lv_iconst (v := 0) hx hb dX3_lost_109 (by decide) ?_
        refine lv_istore (lv' := [(5, .int 0), (0, .ref (mad g 62)), (1, .int x12), (2, .int x13), (3, .int x14), (4, .int x15)]) hx hb dX3_lost_110 hl (by decide) rfl (fun ls hl => ?_)
        obtain ⟨n97, h⟩ := h
        exact (kM_lost_L112 F hO n97) s19 x13 x14 0 H locs ls hS (lv_sub hl [1, 3, 4, 0] rfl) h
      · have h := h.2 c18
        refine lv_bipush (v := (-12)) hx hb dX3_lost_100 (by decide) ?_
        exact gw_iret F hS h dX3_lost_102
    · have h := h.2 c17
      refine lv_iload hx hb dX3_lost_59 (lv_at hl 4 rfl) ?_
      refine lv_if_eq (tgt := 86) hx hb dX3_lost_61 (by decide) (fun c98 => ?_) (fun c98 => ?_)
      · have h := h.1 c98
        refine lv_iconst (v := 0) hx hb dX3_lost_86 (by decide) ?_
        refine lv_istore (lv' := [(4, .int 0), (0, .ref (mad g 62)), (1, .int x12), (2, .int x13), (3, .int x14), (5, .int x16)]) hx hb dX3_lost_87 hl (by decide) rfl (fun ls hl => ?_)
        obtain ⟨x99, ex99⟩ : ∃ y : Int32, y = x16 + 1 := ⟨_, rfl⟩
        have h := h x99 ex99
        refine lv_iinc (v := x99) (lv' := [(5, .int x99), (4, .int 0), (0, .ref (mad g 62)), (1, .int x12), (2, .int x13), (3, .int x14)]) hx hb dX3_lost_89 hl (k := 5) rfl (by rw [ex99]; rfl) (by decide) rfl (fun ls hl => ?_)
        refine lv_goto (tgt := 50) hx hb dX3_lost_92 (by decide) ?_
        exact ih σ x12 x13 x14 0 x99 H locs ls hS (lv_sub hl [2, 3, 4, 5, 1, 0] rfl) h
      · have h := h.2 c98
        refine lv_iload_n hx hb dX3_lost_64 rfl (lv_at hl 3 rfl) ?_
        refine lv_iload hx hb dX3_lost_65 (lv_at hl 5 rfl) ?_
        refine lv_ishr hx hb dX3_lost_67 ?_
        refine lv_iconst (v := 1) hx hb dX3_lost_68 (by decide) ?_
        refine lv_iand hx hb dX3_lost_69 ?_
        refine lv_if_eq (tgt := 82) hx hb dX3_lost_70 (by decide) (fun c100 => ?_) (fun c100 => ?_)
        · have h := h.1 c100
          refine lv_iconst (v := 1) hx hb dX3_lost_82 (by decide) ?_
          refine lv_goto (tgt := 87) hx hb dX3_lost_83 (by decide) ?_
          refine lv_istore (lv' := [(4, .int 1), (0, .ref (mad g 62)), (1, .int x12), (2, .int x13), (3, .int x14), (5, .int x16)]) hx hb dX3_lost_87 hl (by decide) rfl (fun ls hl => ?_)
          obtain ⟨x101, ex101⟩ : ∃ y : Int32, y = x16 + 1 := ⟨_, rfl⟩
          have h := h x101 ex101
          refine lv_iinc (v := x101) (lv' := [(5, .int x101), (4, .int 1), (0, .ref (mad g 62)), (1, .int x12), (2, .int x13), (3, .int x14)]) hx hb dX3_lost_89 hl (k := 5) rfl (by rw [ex101]; rfl) (by decide) rfl (fun ls hl => ?_)
          refine lv_goto (tgt := 50) hx hb dX3_lost_92 (by decide) ?_
          exact ih σ x12 x13 x14 1 x101 H locs ls hS (lv_sub hl [2, 3, 4, 5, 1, 0] rfl) h
        · have h := h.2 c100
          refine lv_aload_n hx hb dX3_lost_73 rfl (lv_at hl 0 rfl) ?_
          refine lv_iload hx hb dX3_lost_74 (lv_at hl 5 rfl) ?_
          refine gw_callVi (As := [.int x16]) (rest := []) F hS (tM_isHouse l g hO σ x16 _ h) (cwV 1 hts (lw_V q1634 q1636 qs42 q90 q1637) rfl rfl rfl (by decide +kernel) ⟨Nat.le_of_ble_eq_true rfl, Nat.le_of_ble_eq_true rfl⟩) (m_rec F hO hS) rfl hl.1 rfl (Nat.le_of_ble_eq_true rfl) dX3_lost_76 ⟨Nat.le_refl 0, Nat.le_refl 0⟩ (fun r103 s102 H locs h hS => ?_)
          obtain ⟨zr103, h⟩ := h
          refine gcut (P := ∀ (v105 : Int32) (H : Heap) (locs : List Loc) (ls : Array Slot), v105 = (if r103 = 0 then 0 else 1) → gSt (MWd g) (MA g) s s102 H locs → lv_has ls 11 [(0, .ref (mad g 62)), (1, .int x12), (2, .int x13), (3, .int x14), (5, .int x16)] → W p l e rM_lost s m args below meth c H locs 0 0 (MQ below (va_Qi post (gB (MWd g)) (MA g)) args s 0 0 (MA g)) (F0 m 87 ls [.int v105])) (fun v105 H locs ls ev105 hS hl => ?_) (fun J106 => ?_)
          · have h := h v105 ev105
            refine lv_istore (lv' := [(4, .int v105), (0, .ref (mad g 62)), (1, .int x12), (2, .int x13), (3, .int x14), (5, .int x16)]) hx hb dX3_lost_87 hl (by decide) rfl (fun ls hl => ?_)
            obtain ⟨x107, ex107⟩ : ∃ y : Int32, y = x16 + 1 := ⟨_, rfl⟩
            have h := h x107 ex107
            refine lv_iinc (v := x107) (lv' := [(5, .int x107), (4, .int v105), (0, .ref (mad g 62)), (1, .int x12), (2, .int x13), (3, .int x14)]) hx hb dX3_lost_89 hl (k := 5) rfl (by rw [ex107]; rfl) (by decide) rfl (fun ls hl => ?_)
            refine lv_goto (tgt := 50) hx hb dX3_lost_92 (by decide) ?_
            exact ih s102 x12 x13 x14 v105 x107 H locs ls hS (lv_sub hl [2, 3, 4, 5, 1, 0] rfl) h
          · refine lv_if_eq (tgt := 86) hx hb dX3_lost_79 (by decide) (fun c104 => ?_) (fun c104 => ?_)
            · refine lv_iconst (v := 0) hx hb dX3_lost_86 (by decide) ?_
              exact J106 _ H locs ls (by first | with_reducible rfl | ((try rw [if_pos c104]); done)) hS (lv_sub hl [0, 1, 2, 3, 5] rfl)
            · refine lv_iconst (v := 1) hx hb dX3_lost_82 (by decide) ?_
              refine lv_goto (tgt := 87) hx hb dX3_lost_83 (by decide) ?_
              exact J106 _ H locs ls (by first | with_reducible rfl | ((try rw [if_neg c104]); done)) hS (lv_sub hl [0, 1, 2, 3, 5] rfl)
set_option maxHeartbeats 4000000 in
set_option maxRecDepth 100000 in
theorem kM_lost {p : Program} {l : Launch} {e : Env} {s : State} {m : MethodId} {args : Array Value} {below : List Frame} {meth : Method} {c : Code} {g : MG} {post : Int32 → MS → Prop} (F : gFx p s m c meth args cX3_lost 11 RX3 (some .int) (mD g) (mcl g) (mty g)) (hO : MOK g) (σ : MS) (a1 : Int32) (a2 : Int32) (a3 : Int32) (H : Heap) (locs : List Loc) (ls : Array Slot) (hS : gSt (MWd g) (MA g) s σ H locs) (hl : lv_has ls 11 [(0, .ref (mad g 62)), (1, .int a1), (2, .int a2), (3, .int a3)]) (h : wM_lost post σ a1 a2 a3) : W p l e rM_lost s m args below meth c H locs 0 0 (MQ below (va_Qi post (gB (MWd g)) (MA g)) args s 0 0 (MA g)) (F0 m 0 ls []) := by
  have hx := F.hx
  have hb := F.hb
  have hts := F.1.2.2.2.2
  have hown := F.1.2.2.2.1
  rw [wM_lost] at h
  refine lv_aload_n hx hb dX3_lost_0 rfl (lv_at hl 0 rfl) ?_
  refine lv_iload_n hx hb dX3_lost_1 rfl (lv_at hl 1 rfl) ?_
  refine gw_callVi (As := [.int a1]) (rest := []) F hS (tM_isPlace l g hO σ a1 _ h) (cwV 1 hts (lw_V q1618 q1620 qs40 q90 q1621) rfl rfl rfl (by decide +kernel) ⟨Nat.le_of_ble_eq_true rfl, Nat.le_of_ble_eq_true rfl⟩) (m_rec F hO hS) rfl hl.1 rfl (Nat.le_of_ble_eq_true rfl) dX3_lost_2 ⟨Nat.le_refl 0, Nat.le_refl 0⟩ (fun r2 s1 H locs h hS => ?_)
  obtain ⟨zr2, h⟩ := h
  refine lv_if_eq (tgt := 38) hx hb dX3_lost_5 (by decide) (fun c3 => ?_) (fun c3 => ?_)
  · have h := h.1 c3
    refine lv_iconst (v := (-1)) hx hb dX3_lost_38 (by decide) ?_
    exact gw_iret F hS h dX3_lost_39
  · have h := h.2 c3
    refine lv_iload_n hx hb dX3_lost_8 rfl (lv_at hl 2 rfl) ?_
    refine lv_i2l hx hb dX3_lost_9 rfl ?_
    refine lv_lconst (v := 1) hx hb dX3_lost_10 (by decide) ?_
    refine lv_ldc2 (v := 100) hx hb hown (hts _ q1733) dX3_lost_11 ?_
    refine gw_callSi (As := [.long a2.toInt64, .long 1, .long 100]) (rest := []) F hS (tM_in l g hO s1 a2.toInt64 1 100 _ h) (va_cwS 3 hts (lw_S q1593 q1594 q90 q1595) rfl rfl rfl (by decide +kernel) ⟨Nat.le_of_ble_eq_true rfl, Nat.le_of_ble_eq_true rfl⟩) rfl hl.1 rfl (Nat.le_of_ble_eq_true rfl) dX3_lost_14 ⟨Nat.le_refl 0, Nat.le_refl 0⟩ (fun r5 s4 H locs h hS => ?_)
    obtain ⟨zr5, h⟩ := h
    refine lv_if_eq (tgt := 38) hx hb dX3_lost_17 (by decide) (fun c6 => ?_) (fun c6 => ?_)
    · have h := h.1 c6
      refine lv_iconst (v := (-1)) hx hb dX3_lost_38 (by decide) ?_
      exact gw_iret F hS h dX3_lost_39
    · have h := h.2 c6
      refine lv_iload_n hx hb dX3_lost_20 rfl (lv_at hl 3 rfl) ?_
      refine lv_i2l hx hb dX3_lost_21 rfl ?_
      refine lv_lconst (v := 0) hx hb dX3_lost_22 (by decide) ?_
      refine lv_iconst (v := 1) hx hb dX3_lost_23 (by decide) ?_
      refine lv_aload_n hx hb dX3_lost_24 rfl (lv_at hl 0 rfl) ?_
      refine m_geti F hO hS 1 (by decide) rfl q1398 dX3_lost_25 ?_
      refine lv_ishl hx hb dX3_lost_28 ?_
      refine lv_iconst (v := 1) hx hb dX3_lost_29 (by decide) ?_
      refine lv_isub hx hb dX3_lost_30 ?_
      refine lv_i2l hx hb dX3_lost_31 rfl ?_
      refine gw_callSi (As := [.long a3.toInt64, .long 0, .long ((((1 : Int32) <<< ((s4 1 0) &&& 31)) - 1).toInt64)]) (rest := []) F hS (tM_in l g hO s4 a3.toInt64 0 ((((1 : Int32) <<< ((s4 1 0) &&& 31)) - 1).toInt64) _ h) (va_cwS 3 hts (lw_S q1593 q1594 q90 q1595) rfl rfl rfl (by decide +kernel) ⟨Nat.le_of_ble_eq_true rfl, Nat.le_of_ble_eq_true rfl⟩) rfl hl.1 rfl (Nat.le_of_ble_eq_true rfl) dX3_lost_32 ⟨Nat.le_refl 0, Nat.le_refl 0⟩ (fun r8 s7 H locs h hS => ?_)
      obtain ⟨zr8, h⟩ := h
      refine lv_if_ne (tgt := 40) hx hb dX3_lost_35 (by decide) (fun c9 => ?_) (fun c9 => ?_)
      · have h := h.1 c9
        refine lv_aload_n hx hb dX3_lost_40 rfl (lv_at hl 0 rfl) ?_
        refine lv_iload_n hx hb dX3_lost_41 rfl (lv_at hl 1 rfl) ?_
        refine gw_callVi (As := [.int a1]) (rest := []) F hS (tM_isHouse l g hO s7 a1 _ h) (cwV 1 hts (lw_V q1634 q1636 qs42 q90 q1637) rfl rfl rfl (by decide +kernel) ⟨Nat.le_of_ble_eq_true rfl, Nat.le_of_ble_eq_true rfl⟩) (m_rec F hO hS) rfl hl.1 rfl (Nat.le_of_ble_eq_true rfl) dX3_lost_42 ⟨Nat.le_refl 0, Nat.le_refl 0⟩ (fun r11 s10 H locs h hS => ?_)
        obtain ⟨zr11, h⟩ := h
        refine lv_istore (lv' := [(4, .int r11), (0, .ref (mad g 62)), (1, .int a1), (2, .int a2), (3, .int a3)]) hx hb dX3_lost_45 hl (by decide) rfl (fun ls hl => ?_)
        refine lv_iconst (v := 0) hx hb dX3_lost_47 (by decide) ?_
        refine lv_istore (lv' := [(5, .int 0), (4, .int r11), (0, .ref (mad g 62)), (1, .int a1), (2, .int a2), (3, .int a3)]) hx hb dX3_lost_48 hl (by decide) rfl (fun ls hl => ?_)
        obtain ⟨n108, h⟩ := h
        exact (kM_lost_L50 F hO n108) s10 a1 a2 a3 r11 0 H locs ls hS (lv_sub hl [2, 3, 4, 5, 1, 0] rfl) h
      · have h := h.2 c9
        refine lv_iconst (v := (-1)) hx hb dX3_lost_38 (by decide) ?_
        exact gw_iret F hS h dX3_lost_39
set_option maxHeartbeats 4000000 in
set_option maxRecDepth 100000 in
theorem tM_lost (l : Launch) (g : MG) (hO : MOK g) (σ : MS) (a1 : Int32) (a2 : Int32) (a3 : Int32) (post : Int32 → MS → Prop) (h : wM_lost post σ a1 a2 a3) : Met l yX3_lost (ws_ yX3_lost cX3_lost 11 (some .int)) rM_lost (va_Pc [.ref (mad g 62), .int a1, .int a2, .int a3] (gPre (MWd g) (mD g) (mcl g) (mty g) σ)) (va_Qi post (gB (MWd g)) (MA g)) 0 0 (MA g) := by
  refine Met.ofW (cc := cX3_lost) (maxL := 11) (ret := (some .int)) (by decide) rfl ?_
  intro p e s m args below meth c s₁ B hml hv
  obtain ⟨rfl, hW, hK⟩ := hv
  have hts := atoms_spec (ws := (ws_ yX3_lost cX3_lost 11 (some .int))) B.pre
  have hts : ∀ w ∈ lw_all, w.before _ s = true := fun w h => hts w (List.mem_cons_of_mem _ h)
  have hl := lv_entry ([.ref (mad g 62), .int a1, .int a2, .int a3]) (n := 11) (Nat.le_of_ble_eq_true rfl)
  rw [lg_entry_eq]
  generalize (lg_sl ([.ref (mad g 62), .int a1, .int a2, .int a3]) ++ List.replicate (11 - (lg_sl ([.ref (mad g 62), .int a1, .int a2, .int a3])).length) Slot.unset).toArray = ls at hl ⊢
  exact kM_lost ⟨⟨B.exec, B.bytes, hml, findClass_of_methodNamed B.named, hts⟩, hK, B.returns, B.notSynchronized⟩ hO σ a1 a2 a3 s.heap [] ls ⟨hW, va_S.rf⟩ hl h
def wM_tie (post : Int32 → MS → Prop) (σ : MS) (a1 : Int32) (a2 : Int32) : Prop := wM_isPlace (fun r2 s1 => (r2 = 0 → post (-1) s1) ∧ (¬ (r2 = 0) → wM_isPlace (fun r5 s4 => (r5 = 0 → post (-1) s4) ∧ (¬ (r5 = 0) → (¬ (a1 = a2) → wM_isHouse (fun r9 s8 => (r9 = 0 → post (-12) s8) ∧ (¬ (r9 = 0) → wM_isHouse (fun r12 s11 => (¬ (r12 = 0) → (vp_in a1 16 ∧ ((((s11 8 a1.toNatClampNeg) >>> (a2 &&& 31)) &&& 1) = 0 → post (-2) s11) ∧ (¬ ((((s11 8 a1.toNatClampNeg) >>> (a2 &&& 31)) &&& 1) = 0) → wM_isCut (fun r17 s16 => (r17 = 0 → (¬ ((s16 55 0) = 8) → (vp_in (s16 55 0) 8 ∧ ∀ s20 : MS, s20 = up2 s16 56 (s16 55 0).toNatClampNeg a1 → vp_in (s20 55 0) 8 ∧ ∀ s22 : MS, s22 = up2 s20 57 (s20 55 0).toNatClampNeg a2 → ∀ s24 : MS, s24 = up2 s22 55 0 ((s22 55 0) + 1) → post ((s24 55 0) - 1) s24)) ∧ ((s16 55 0) = 8 → post (-3) s16)) ∧ (¬ (r17 = 0) → post (-2) s16)) s11 a1 a2 255))) ∧ (r12 = 0 → post (-12) s11)) s8 a2)) s4 a1) ∧ (a1 = a2 → post (-1) s4))) s1 a2)) σ a1
abbrev rM_tie : Room := { frames := 2, cells := 0, slots := 0, locals := 46 }
set_option maxHeartbeats 4000000 in
set_option maxRecDepth 100000 in
theorem kM_tie {p : Program} {l : Launch} {e : Env} {s : State} {m : MethodId} {args : Array Value} {below : List Frame} {meth : Method} {c : Code} {g : MG} {post : Int32 → MS → Prop} (F : gFx p s m c meth args cX3_tie 3 RX3 (some .int) (mD g) (mcl g) (mty g)) (hO : MOK g) (σ : MS) (a1 : Int32) (a2 : Int32) (H : Heap) (locs : List Loc) (ls : Array Slot) (hS : gSt (MWd g) (MA g) s σ H locs) (hl : lv_has ls 3 [(0, .ref (mad g 62)), (1, .int a1), (2, .int a2)]) (h : wM_tie post σ a1 a2) : W p l e rM_tie s m args below meth c H locs 0 0 (MQ below (va_Qi post (gB (MWd g)) (MA g)) args s 0 0 (MA g)) (F0 m 0 ls []) := by
  have hx := F.hx
  have hb := F.hb
  have hts := F.1.2.2.2.2
  have hown := F.1.2.2.2.1
  rw [wM_tie] at h
  refine lv_aload_n hx hb dX3_tie_0 rfl (lv_at hl 0 rfl) ?_
  refine lv_iload_n hx hb dX3_tie_1 rfl (lv_at hl 1 rfl) ?_
  refine gw_callVi (As := [.int a1]) (rest := []) F hS (tM_isPlace l g hO σ a1 _ h) (cwV 1 hts (lw_V q1618 q1620 qs40 q90 q1621) rfl rfl rfl (by decide +kernel) ⟨Nat.le_of_ble_eq_true rfl, Nat.le_of_ble_eq_true rfl⟩) (m_rec F hO hS) rfl hl.1 rfl (Nat.le_of_ble_eq_true rfl) dX3_tie_2 ⟨Nat.le_refl 0, Nat.le_refl 0⟩ (fun r2 s1 H locs h hS => ?_)
  obtain ⟨zr2, h⟩ := h
  refine lv_if_eq (tgt := 21) hx hb dX3_tie_5 (by decide) (fun c3 => ?_) (fun c3 => ?_)
  · have h := h.1 c3
    refine lv_iconst (v := (-1)) hx hb dX3_tie_21 (by decide) ?_
    exact gw_iret F hS h dX3_tie_22
  · have h := h.2 c3
    refine lv_aload_n hx hb dX3_tie_8 rfl (lv_at hl 0 rfl) ?_
    refine lv_iload_n hx hb dX3_tie_9 rfl (lv_at hl 2 rfl) ?_
    refine gw_callVi (As := [.int a2]) (rest := []) F hS (tM_isPlace l g hO s1 a2 _ h) (cwV 1 hts (lw_V q1618 q1620 qs40 q90 q1621) rfl rfl rfl (by decide +kernel) ⟨Nat.le_of_ble_eq_true rfl, Nat.le_of_ble_eq_true rfl⟩) (m_rec F hO hS) rfl hl.1 rfl (Nat.le_of_ble_eq_true rfl) dX3_tie_10 ⟨Nat.le_refl 0, Nat.le_refl 0⟩ (fun r5 s4 H locs h hS => ?_)
    obtain ⟨zr5, h⟩ := h
    refine lv_if_eq (tgt := 21) hx hb dX3_tie_13 (by decide) (fun c6 => ?_) (fun c6 => ?_)
    · have h := h.1 c6
      refine lv_iconst (v := (-1)) hx hb dX3_tie_21 (by decide) ?_
      exact gw_iret F hS h dX3_tie_22
    · have h := h.2 c6
      refine lv_iload_n hx hb dX3_tie_16 rfl (lv_at hl 1 rfl) ?_
      refine lv_iload_n hx hb dX3_tie_17 rfl (lv_at hl 2 rfl) ?_
      refine lv_icmp_ne (tgt := 23) hx hb dX3_tie_18 (by decide) (fun c7 => ?_) (fun c7 => ?_)
      · have h := h.1 c7
        refine lv_aload_n hx hb dX3_tie_23 rfl (lv_at hl 0 rfl) ?_
        refine lv_iload_n hx hb dX3_tie_24 rfl (lv_at hl 1 rfl) ?_
        refine gw_callVi (As := [.int a1]) (rest := []) F hS (tM_isHouse l g hO s4 a1 _ h) (cwV 1 hts (lw_V q1634 q1636 qs42 q90 q1637) rfl rfl rfl (by decide +kernel) ⟨Nat.le_of_ble_eq_true rfl, Nat.le_of_ble_eq_true rfl⟩) (m_rec F hO hS) rfl hl.1 rfl (Nat.le_of_ble_eq_true rfl) dX3_tie_25 ⟨Nat.le_refl 0, Nat.le_refl 0⟩ (fun r9 s8 H locs h hS => ?_)
        obtain ⟨zr9, h⟩ := h
        refine lv_if_eq (tgt := 39) hx hb dX3_tie_28 (by decide) (fun c10 => ?_) (fun c10 => ?_)
        · have h := h.1 c10
          refine lv_bipush (v := (-12)) hx hb dX3_tie_39 (by decide) ?_
          exact gw_iret F hS h dX3_tie_41
        · have h := h.2 c10
          refine lv_aload_n hx hb dX3_tie_31 rfl (lv_at hl 0 rfl) ?_
          refine lv_iload_n hx hb dX3_tie_32 rfl (lv_at hl 2 rfl) ?_
          refine gw_callVi (As := [.int a2]) (rest := []) F hS (tM_isHouse l g hO s8 a2 _ h) (cwV 1 hts (lw_V q1634 q1636 qs42 q90 q1637) rfl rfl rfl (by decide +kernel) ⟨Nat.le_of_ble_eq_true rfl, Nat.le_of_ble_eq_true rfl⟩) (m_rec F hO hS) rfl hl.1 rfl (Nat.le_of_ble_eq_true rfl) dX3_tie_33 ⟨Nat.le_refl 0, Nat.le_refl 0⟩ (fun r12 s11 H locs h hS => ?_)
          obtain ⟨zr12, h⟩ := h
          refine lv_if_ne (tgt := 42) hx hb dX3_tie_36 (by decide) (fun c13 => ?_) (fun c13 => ?_)
          · have h := h.1 c13
            refine lv_aload_n hx hb dX3_tie_42 rfl (lv_at hl 0 rfl) ?_
            refine m_geta F hO hS 8 (by decide) rfl q1405 dX3_tie_43 ?_
            refine lv_iload_n hx hb dX3_tie_46 rfl (lv_at hl 1 rfl) ?_
            obtain ⟨b14, h⟩ := h
            refine m_iald F hS 8 6 rfl rfl b14 dX3_tie_47 ?_
            refine lv_iload_n hx hb dX3_tie_48 rfl (lv_at hl 2 rfl) ?_
            refine lv_ishr hx hb dX3_tie_49 ?_
            refine lv_iconst (v := 1) hx hb dX3_tie_50 (by decide) ?_
            refine lv_iand hx hb dX3_tie_51 ?_
            refine lv_if_eq (tgt := 67) hx hb dX3_tie_52 (by decide) (fun c15 => ?_) (fun c15 => ?_)
            · have h := h.1 c15
              refine lv_bipush (v := (-2)) hx hb dX3_tie_67 (by decide) ?_
              exact gw_iret F hS h dX3_tie_69
            · have h := h.2 c15
              refine lv_aload_n hx hb dX3_tie_55 rfl (lv_at hl 0 rfl) ?_
              refine lv_iload_n hx hb dX3_tie_56 rfl (lv_at hl 1 rfl) ?_
              refine lv_iload_n hx hb dX3_tie_57 rfl (lv_at hl 2 rfl) ?_
              refine lv_sipush (v := 255) hx hb dX3_tie_58 (by decide) ?_
              refine gw_callVi (As := [.int a1, .int a2, .int 255]) (rest := []) F hS (tM_isCut l g hO s11 a1 a2 255 _ h) (cwV 3 hts (lw_V q1938 q1940 qs79 q90 q1941) rfl rfl rfl (by decide +kernel) ⟨Nat.le_of_ble_eq_true rfl, Nat.le_of_ble_eq_true rfl⟩) (m_rec F hO hS) rfl hl.1 rfl (Nat.le_of_ble_eq_true rfl) dX3_tie_61 ⟨Nat.le_refl 0, Nat.le_refl 0⟩ (fun r17 s16 H locs h hS => ?_)
              obtain ⟨zr17, h⟩ := h
              refine lv_if_eq (tgt := 70) hx hb dX3_tie_64 (by decide) (fun c18 => ?_) (fun c18 => ?_)
              · have h := h.1 c18
                refine lv_aload_n hx hb dX3_tie_70 rfl (lv_at hl 0 rfl) ?_
                refine m_geti F hO hS 55 (by decide) rfl q1452 dX3_tie_71 ?_
                refine lv_bipush (v := 8) hx hb dX3_tie_74 (by decide) ?_
                refine lv_icmp_ne (tgt := 82) hx hb dX3_tie_76 (by decide) (fun c19 => ?_) (fun c19 => ?_)
                · have h := h.1 c19
                  refine lv_aload_n hx hb dX3_tie_82 rfl (lv_at hl 0 rfl) ?_
                  refine m_geta F hO hS 56 (by decide) rfl q1453 dX3_tie_83 ?_
                  refine lv_aload_n hx hb dX3_tie_86 rfl (lv_at hl 0 rfl) ?_
                  refine m_geti F hO hS 55 (by decide) rfl q1452 dX3_tie_87 ?_
                  refine lv_iload_n hx hb dX3_tie_90 rfl (lv_at hl 1 rfl) ?_
                  obtain ⟨b21, h⟩ := h
                  refine m_iast F hO hS 56 43 rfl rfl b21 dX3_tie_91 (fun s20 es20 H locs hS => ?_)
                  have h := h s20 es20
                  refine lv_aload_n hx hb dX3_tie_92 rfl (lv_at hl 0 rfl) ?_
                  refine m_geta F hO hS 57 (by decide) rfl q1454 dX3_tie_93 ?_
                  refine lv_aload_n hx hb dX3_tie_96 rfl (lv_at hl 0 rfl) ?_
                  refine m_geti F hO hS 55 (by decide) rfl q1452 dX3_tie_97 ?_
                  refine lv_iload_n hx hb dX3_tie_100 rfl (lv_at hl 2 rfl) ?_
                  obtain ⟨b23, h⟩ := h
                  refine m_iast F hO hS 57 44 rfl rfl b23 dX3_tie_101 (fun s22 es22 H locs hS => ?_)
                  have h := h s22 es22
                  refine lv_aload_n hx hb dX3_tie_102 rfl (lv_at hl 0 rfl) ?_
                  refine lv_dup hx hb dX3_tie_103 rfl ?_
                  refine m_geti F hO hS 55 (by decide) rfl q1452 dX3_tie_104 ?_
                  refine lv_iconst (v := 1) hx hb dX3_tie_107 (by decide) ?_
                  refine lv_iadd hx hb dX3_tie_108 ?_
                  refine m_puti F hO hS 55 (by decide) rfl q1452 rfl (by decide +kernel) dX3_tie_109 (fun s24 es24 H locs hS => ?_)
                  have h := h s24 es24
                  refine lv_aload_n hx hb dX3_tie_112 rfl (lv_at hl 0 rfl) ?_
                  refine m_geti F hO hS 55 (by decide) rfl q1452 dX3_tie_113 ?_
                  refine lv_iconst (v := 1) hx hb dX3_tie_116 (by decide) ?_
                  refine lv_isub hx hb dX3_tie_117 ?_
                  exact gw_iret F hS h dX3_tie_118
                · have h := h.2 c19
                  refine lv_bipush (v := (-3)) hx hb dX3_tie_79 (by decide) ?_
                  exact gw_iret F hS h dX3_tie_81
              · have h := h.2 c18
                refine lv_bipush (v := (-2)) hx hb dX3_tie_67 (by decide) ?_
                exact gw_iret F hS h dX3_tie_69
          · have h := h.2 c13
            refine lv_bipush (v := (-12)) hx hb dX3_tie_39 (by decide) ?_
            exact gw_iret F hS h dX3_tie_41
      · have h := h.2 c7
        refine lv_iconst (v := (-1)) hx hb dX3_tie_21 (by decide) ?_
        exact gw_iret F hS h dX3_tie_22
set_option maxHeartbeats 4000000 in
set_option maxRecDepth 100000 in
theorem tM_tie (l : Launch) (g : MG) (hO : MOK g) (σ : MS) (a1 : Int32) (a2 : Int32) (post : Int32 → MS → Prop) (h : wM_tie post σ a1 a2) : Met l yX3_tie (ws_ yX3_tie cX3_tie 3 (some .int)) rM_tie (va_Pc [.ref (mad g 62), .int a1, .int a2] (gPre (MWd g) (mD g) (mcl g) (mty g) σ)) (va_Qi post (gB (MWd g)) (MA g)) 0 0 (MA g) := by
  refine Met.ofW (cc := cX3_tie) (maxL := 3) (ret := (some .int)) (by decide) rfl ?_
  intro p e s m args below meth c s₁ B hml hv
  obtain ⟨rfl, hW, hK⟩ := hv
  have hts := atoms_spec (ws := (ws_ yX3_tie cX3_tie 3 (some .int))) B.pre
  have hts : ∀ w ∈ lw_all, w.before _ s = true := fun w h => hts w (List.mem_cons_of_mem _ h)
  have hl := lv_entry ([.ref (mad g 62), .int a1, .int a2]) (n := 3) (Nat.le_of_ble_eq_true rfl)
  rw [lg_entry_eq]
  generalize (lg_sl ([.ref (mad g 62), .int a1, .int a2]) ++ List.replicate (3 - (lg_sl ([.ref (mad g 62), .int a1, .int a2])).length) Slot.unset).toArray = ls at hl ⊢
  exact kM_tie ⟨⟨B.exec, B.bytes, hml, findClass_of_methodNamed B.named, hts⟩, hK, B.returns, B.notSynchronized⟩ hO σ a1 a2 s.heap [] ls ⟨hW, va_S.rf⟩ hl h
def wM_isSafe_L22 (post : Int32 → MS → Prop) (K57 : MS → Int32 → Int32 → Int32 → Int32 → Prop) : Nat → MS → Int32 → Int32 → Int32 → Int32 → Int32 → Prop
  | 0, _, _, _, _, _, _ => False
  | n + 1, σ, x6, x7, x8, x9, x10 => ((σ 1 0) ≤ x10 → K57 σ x6 x7 x8 x9) ∧ (¬ ((σ 1 0) ≤ x10) → (vp_in x10 16 ∧ (∀ v14 : Int32, v14 = (if (σ 53 x10.toNatClampNeg) ≤ 0 then 0 else 1) → (∀ x16 : Int32, x16 = x9 + v14 → ∀ x17 : Int32, x17 = x10 + 1 → wM_isSafe_L22 post K57 n σ x6 x7 x8 x16 x17))))
def wM_isSafe_L2 (post : Int32 → MS → Prop) : Nat → MS → Int32 → Int32 → Int32 → Prop
  | 0, _, _, _, _ => False
  | n + 1, σ, x1, x2, x3 => ((σ 1 0) ≤ x3 → post 1 σ) ∧ (¬ ((σ 1 0) ≤ x3) → wM_talks (fun s5 => ∃ n18, wM_isSafe_L22 post (fun σ19 x20 x21 x22 x23 => (x23 ≤ x20 → (∀ x25 : Int32, x25 = x22 + 1 → wM_isSafe_L2 post n σ19 x20 x21 x25)) ∧ (¬ (x23 ≤ x20) → wM_isHouse (fun r27 s26 => (r27 = 0 → (∀ x29 : Int32, x29 = x22 + 1 → wM_isSafe_L2 post n s26 x20 x21 x29)) ∧ (¬ (r27 = 0) → post 0 s26)) σ19 x22)) n18 s5 x1 x2 x3 0 0) σ x3 x2)
def wM_isSafe (post : Int32 → MS → Prop) (σ : MS) (a1 : Int32) (a2 : Int32) : Prop := ∃ n30, wM_isSafe_L2 post n30 σ a1 a2 0
abbrev rM_isSafe : Room := { frames := 2, cells := 0, slots := 0, locals := 51 }
set_option maxHeartbeats 4000000 in
set_option maxRecDepth 100000 in
theorem kM_isSafe_L22 {p : Program} {l : Launch} {e : Env} {s : State} {m : MethodId} {args : Array Value} {below : List Frame} {meth : Method} {c : Code} {g : MG} {post : Int32 → MS → Prop} {K57 : MS → Int32 → Int32 → Int32 → Int32 → Prop} (F : gFx p s m c meth args cX3_isSafe 6 RX3 (some .boolean) (mD g) (mcl g) (mty g)) (hO : MOK g) (hK57 : ∀ (σ : MS) (z0 : Int32) (z1 : Int32) (z2 : Int32) (z3 : Int32) (H : Heap) (locs : List Loc) (ls : Array Slot), gSt (MWd g) (MA g) s σ H locs → lv_has ls 6 [(0, .ref (mad g 62)), (1, .int z0), (2, .int z1), (3, .int z2), (4, .int z3)] → K57 σ z0 z1 z2 z3 → W p l e rM_isSafe s m args below meth c H locs 0 0 (MQ below (va_Qi (zpost post) (gB (MWd g)) (MA g)) args s 0 0 (MA g)) (F0 m 57 ls [])) : ∀ (n : Nat) (σ : MS) (x6 : Int32) (x7 : Int32) (x8 : Int32) (x9 : Int32) (x10 : Int32) (H : Heap) (locs : List Loc) (ls : Array Slot), gSt (MWd g) (MA g) s σ H locs → lv_has ls 6 [(0, .ref (mad g 62)), (1, .int x6), (2, .int x7), (3, .int x8), (4, .int x9), (5, .int x10)] → wM_isSafe_L22 post K57 n σ x6 x7 x8 x9 x10 → W p l e rM_isSafe s m args below meth c H locs 0 0 (MQ below (va_Qi (zpost post) (gB (MWd g)) (MA g)) args s 0 0 (MA g)) (F0 m 22 ls []) := by
  have hx := F.hx
  have hb := F.hb
  have hts := F.1.2.2.2.2
  have hown := F.1.2.2.2.1
  intro n
  induction n with
  | zero =>
    intro σ x6 x7 x8 x9 x10 H locs ls hS hl h
    exact False.elim h
  | succ n ih =>
    intro σ x6 x7 x8 x9 x10 H locs ls hS hl h
    rw [wM_isSafe_L22] at h
    refine lv_iload hx hb dX3_isSafe_22 (lv_at hl 5 rfl) ?_
    refine lv_aload_n hx hb dX3_isSafe_24 rfl (lv_at hl 0 rfl) ?_
    refine m_geti F hO hS 1 (by decide) rfl q1398 dX3_isSafe_25 ?_
    refine lv_icmp_ge (tgt := 57) hx hb dX3_isSafe_28 (by decide) (fun c11 => ?_) (fun c11 => ?_)
    · have h := h.1 c11
      exact hK57 σ x6 x7 x8 x9 H locs ls hS (lv_sub hl [0, 1, 2, 3, 4] rfl) h
    · have h := h.2 c11
      refine lv_iload hx hb dX3_isSafe_31 (lv_at hl 4 rfl) ?_
      refine lv_aload_n hx hb dX3_isSafe_33 rfl (lv_at hl 0 rfl) ?_
      refine m_geta F hO hS 53 (by decide) rfl q1450 dX3_isSafe_34 ?_
      refine lv_iload hx hb dX3_isSafe_37 (lv_at hl 5 rfl) ?_
      obtain ⟨b12, h⟩ := h
      refine m_iald F hS 53 41 rfl rfl b12 dX3_isSafe_39 ?_
      refine gcut (P := ∀ (v14 : Int32) (H : Heap) (locs : List Loc) (ls : Array Slot), v14 = (if (σ 53 x10.toNatClampNeg) ≤ 0 then 0 else 1) → gSt (MWd g) (MA g) s σ H locs → lv_has ls 6 [(0, .ref (mad g 62)), (1, .int x6), (2, .int x7), (3, .int x8), (5, .int x10)] → W p l e rM_isSafe s m args below meth c H locs 0 0 (MQ below (va_Qi (zpost post) (gB (MWd g)) (MA g)) args s 0 0 (MA g)) (F0 m 48 ls [.int v14, .int x9])) (fun v14 H locs ls ev14 hS hl => ?_) (fun J15 => ?_)
      · have h := h v14 ev14
        refine lv_iadd hx hb dX3_isSafe_48 ?_
        refine lv_topi (fun x16 ex16 => ?_)
        have h := h x16 ex16
        refine lv_istore (lv' := [(4, .int x16), (0, .ref (mad g 62)), (1, .int x6), (2, .int x7), (3, .int x8), (5, .int x10)]) hx hb dX3_isSafe_49 hl (by decide) rfl (fun ls hl => ?_)
        obtain ⟨x17, ex17⟩ : ∃ y : Int32, y = x10 + 1 := ⟨_, rfl⟩
        have h := h x17 ex17
        refine lv_iinc (v := x17) (lv' := [(5, .int x17), (4, .int x16), (0, .ref (mad g 62)), (1, .int x6), (2, .int x7), (3, .int x8)]) hx hb dX3_isSafe_51 hl (k := 5) rfl (by rw [ex17]; rfl) (by decide) rfl (fun ls hl => ?_)
        refine lv_goto (tgt := 22) hx hb dX3_isSafe_54 (by decide) ?_
        exact ih σ x6 x7 x8 x16 x17 H locs ls hS (lv_sub hl [2, 3, 4, 5, 1, 0] rfl) h
      · refine lv_if_le (tgt := 47) hx hb dX3_isSafe_40 (by decide) (fun c13 => ?_) (fun c13 => ?_)
        · refine lv_iconst (v := 0) hx hb dX3_isSafe_47 (by decide) ?_
          exact J15 _ H locs ls (by first | with_reducible rfl | ((try rw [if_pos c13]); done)) hS (lv_sub hl [0, 1, 2, 3, 5] rfl)
        · refine lv_iconst (v := 1) hx hb dX3_isSafe_43 (by decide) ?_
          refine lv_goto (tgt := 48) hx hb dX3_isSafe_44 (by decide) ?_
          exact J15 _ H locs ls (by first | with_reducible rfl | ((try rw [if_neg c13]); done)) hS (lv_sub hl [0, 1, 2, 3, 5] rfl)
set_option maxHeartbeats 4000000 in
set_option maxRecDepth 100000 in
theorem kM_isSafe_L2 {p : Program} {l : Launch} {e : Env} {s : State} {m : MethodId} {args : Array Value} {below : List Frame} {meth : Method} {c : Code} {g : MG} {post : Int32 → MS → Prop} (F : gFx p s m c meth args cX3_isSafe 6 RX3 (some .boolean) (mD g) (mcl g) (mty g)) (hO : MOK g) : ∀ (n : Nat) (σ : MS) (x1 : Int32) (x2 : Int32) (x3 : Int32) (H : Heap) (locs : List Loc) (ls : Array Slot), gSt (MWd g) (MA g) s σ H locs → lv_has ls 6 [(0, .ref (mad g 62)), (1, .int x1), (2, .int x2), (3, .int x3)] → wM_isSafe_L2 post n σ x1 x2 x3 → W p l e rM_isSafe s m args below meth c H locs 0 0 (MQ below (va_Qi (zpost post) (gB (MWd g)) (MA g)) args s 0 0 (MA g)) (F0 m 2 ls []) := by
  have hx := F.hx
  have hb := F.hb
  have hts := F.1.2.2.2.2
  have hown := F.1.2.2.2.1
  intro n
  induction n with
  | zero =>
    intro σ x1 x2 x3 H locs ls hS hl h
    exact False.elim h
  | succ n ih =>
    intro σ x1 x2 x3 H locs ls hS hl h
    rw [wM_isSafe_L2] at h
    refine lv_iload_n hx hb dX3_isSafe_2 rfl (lv_at hl 3 rfl) ?_
    refine lv_aload_n hx hb dX3_isSafe_3 rfl (lv_at hl 0 rfl) ?_
    refine m_geti F hO hS 1 (by decide) rfl q1398 dX3_isSafe_4 ?_
    refine lv_icmp_ge (tgt := 79) hx hb dX3_isSafe_7 (by decide) (fun c4 => ?_) (fun c4 => ?_)
    · have h := h.1 c4
      refine lv_iconst (v := 1) hx hb dX3_isSafe_79 (by decide) ?_
      exact gw_zret F hS bz1 h dX3_isSafe_80
    · have h := h.2 c4
      refine lv_aload_n hx hb dX3_isSafe_10 rfl (lv_at hl 0 rfl) ?_
      refine lv_iload_n hx hb dX3_isSafe_11 rfl (lv_at hl 3 rfl) ?_
      refine lv_iload_n hx hb dX3_isSafe_12 rfl (lv_at hl 2 rfl) ?_
      refine gw_callVv (As := [.int x3, .int x2]) (rest := []) F hS (tM_talks l g hO σ x3 x2 _ h) (cwV 2 hts (lw_V q1934 q1936 qs78 q90 q1937) rfl rfl rfl (by decide +kernel) ⟨Nat.le_of_ble_eq_true rfl, Nat.le_of_ble_eq_true rfl⟩) (m_rec F hO hS) rfl hl.1 rfl (Nat.le_of_ble_eq_true rfl) dX3_isSafe_13 ⟨Nat.le_refl 0, Nat.le_refl 0⟩ (fun s5 H locs h hS => ?_)
      refine lv_iconst (v := 0) hx hb dX3_isSafe_16 (by decide) ?_
      refine lv_istore (lv' := [(4, .int 0), (0, .ref (mad g 62)), (1, .int x1), (2, .int x2), (3, .int x3)]) hx hb dX3_isSafe_17 hl (by decide) rfl (fun ls hl => ?_)
      refine lv_iconst (v := 0) hx hb dX3_isSafe_19 (by decide) ?_
      refine lv_istore (lv' := [(5, .int 0), (4, .int 0), (0, .ref (mad g 62)), (1, .int x1), (2, .int x2), (3, .int x3)]) hx hb dX3_isSafe_20 hl (by decide) rfl (fun ls hl => ?_)
      obtain ⟨n18, h⟩ := h
      refine (kM_isSafe_L22 F hO ?_ n18) s5 x1 x2 x3 0 0 H locs ls hS (lv_sub hl [2, 3, 4, 5, 1, 0] rfl) h
      · intro σ19 x20 x21 x22 x23 H locs ls hS hl h
        refine lv_iload hx hb dX3_isSafe_57 (lv_at hl 4 rfl) ?_
        refine lv_iload_n hx hb dX3_isSafe_59 rfl (lv_at hl 1 rfl) ?_
        refine lv_icmp_le (tgt := 73) hx hb dX3_isSafe_60 (by decide) (fun c24 => ?_) (fun c24 => ?_)
        · have h := h.1 c24
          obtain ⟨x25, ex25⟩ : ∃ y : Int32, y = x22 + 1 := ⟨_, rfl⟩
          have h := h x25 ex25
          refine lv_iinc (v := x25) (lv' := [(3, .int x25), (0, .ref (mad g 62)), (1, .int x20), (2, .int x21), (4, .int x23)]) hx hb dX3_isSafe_73 hl (k := 3) rfl (by rw [ex25]; rfl) (by decide) rfl (fun ls hl => ?_)
          refine lv_goto (tgt := 2) hx hb dX3_isSafe_76 (by decide) ?_
          exact ih σ19 x20 x21 x25 H locs ls hS (lv_sub hl [1, 2, 3, 0] rfl) h
        · have h := h.2 c24
          refine lv_aload_n hx hb dX3_isSafe_63 rfl (lv_at hl 0 rfl) ?_
          refine lv_iload_n hx hb dX3_isSafe_64 rfl (lv_at hl 3 rfl) ?_
          refine gw_callVi (As := [.int x22]) (rest := []) F hS (tM_isHouse l g hO σ19 x22 _ h) (cwV 1 hts (lw_V q1634 q1636 qs42 q90 q1637) rfl rfl rfl (by decide +kernel) ⟨Nat.le_of_ble_eq_true rfl, Nat.le_of_ble_eq_true rfl⟩) (m_rec F hO hS) rfl hl.1 rfl (Nat.le_of_ble_eq_true rfl) dX3_isSafe_65 ⟨Nat.le_refl 0, Nat.le_refl 0⟩ (fun r27 s26 H locs h hS => ?_)
          obtain ⟨zr27, h⟩ := h
          refine lv_if_eq (tgt := 73) hx hb dX3_isSafe_68 (by decide) (fun c28 => ?_) (fun c28 => ?_)
          · have h := h.1 c28
            obtain ⟨x29, ex29⟩ : ∃ y : Int32, y = x22 + 1 := ⟨_, rfl⟩
            have h := h x29 ex29
            refine lv_iinc (v := x29) (lv' := [(3, .int x29), (0, .ref (mad g 62)), (1, .int x20), (2, .int x21), (4, .int x23)]) hx hb dX3_isSafe_73 hl (k := 3) rfl (by rw [ex29]; rfl) (by decide) rfl (fun ls hl => ?_)
            refine lv_goto (tgt := 2) hx hb dX3_isSafe_76 (by decide) ?_
            exact ih s26 x20 x21 x29 H locs ls hS (lv_sub hl [1, 2, 3, 0] rfl) h
          · have h := h.2 c28
            refine lv_iconst (v := 0) hx hb dX3_isSafe_71 (by decide) ?_
            exact gw_zret F hS bz0 h dX3_isSafe_72
set_option maxHeartbeats 4000000 in
set_option maxRecDepth 100000 in
theorem kM_isSafe {p : Program} {l : Launch} {e : Env} {s : State} {m : MethodId} {args : Array Value} {below : List Frame} {meth : Method} {c : Code} {g : MG} {post : Int32 → MS → Prop} (F : gFx p s m c meth args cX3_isSafe 6 RX3 (some .boolean) (mD g) (mcl g) (mty g)) (hO : MOK g) (σ : MS) (a1 : Int32) (a2 : Int32) (H : Heap) (locs : List Loc) (ls : Array Slot) (hS : gSt (MWd g) (MA g) s σ H locs) (hl : lv_has ls 6 [(0, .ref (mad g 62)), (1, .int a1), (2, .int a2)]) (h : wM_isSafe post σ a1 a2) : W p l e rM_isSafe s m args below meth c H locs 0 0 (MQ below (va_Qi (zpost post) (gB (MWd g)) (MA g)) args s 0 0 (MA g)) (F0 m 0 ls []) := by
  have hx := F.hx
  have hb := F.hb
  have hts := F.1.2.2.2.2
  have hown := F.1.2.2.2.1
  rw [wM_isSafe] at h
  refine lv_iconst (v := 0) hx hb dX3_isSafe_0 (by decide) ?_
  refine lv_istore_n (lv' := [(3, .int 0), (0, .ref (mad g 62)), (1, .int a1), (2, .int a2)]) hx hb dX3_isSafe_1 rfl hl (by decide) rfl (fun ls hl => ?_)
  obtain ⟨n30, h⟩ := h
  exact (kM_isSafe_L2 F hO n30) σ a1 a2 0 H locs ls hS (lv_sub hl [1, 2, 3, 0] rfl) h
set_option maxHeartbeats 4000000 in
set_option maxRecDepth 100000 in
theorem tM_isSafe (l : Launch) (g : MG) (hO : MOK g) (σ : MS) (a1 : Int32) (a2 : Int32) (post : Int32 → MS → Prop) (h : wM_isSafe post σ a1 a2) : Met l yX3_isSafe (ws_ yX3_isSafe cX3_isSafe 6 (some .boolean)) rM_isSafe (va_Pc [.ref (mad g 62), .int a1, .int a2] (gPre (MWd g) (mD g) (mcl g) (mty g) σ)) (va_Qi (zpost post) (gB (MWd g)) (MA g)) 0 0 (MA g) := by
  refine Met.ofW (cc := cX3_isSafe) (maxL := 6) (ret := (some .boolean)) (by decide) rfl ?_
  intro p e s m args below meth c s₁ B hml hv
  obtain ⟨rfl, hW, hK⟩ := hv
  have hts := atoms_spec (ws := (ws_ yX3_isSafe cX3_isSafe 6 (some .boolean))) B.pre
  have hts : ∀ w ∈ lw_all, w.before _ s = true := fun w h => hts w (List.mem_cons_of_mem _ h)
  have hl := lv_entry ([.ref (mad g 62), .int a1, .int a2]) (n := 6) (Nat.le_of_ble_eq_true rfl)
  rw [lg_entry_eq]
  generalize (lg_sl ([.ref (mad g 62), .int a1, .int a2]) ++ List.replicate (6 - (lg_sl ([.ref (mad g 62), .int a1, .int a2])).length) Slot.unset).toArray = ls at hl ⊢
  exact kM_isSafe ⟨⟨B.exec, B.bytes, hml, findClass_of_methodNamed B.named, hts⟩, hK, B.returns, B.notSynchronized⟩ hO σ a1 a2 s.heap [] ls ⟨hW, va_S.rf⟩ hl h
def wM_safe_J68 (post : Int32 → MS → Prop) (K19 : MS → Int32 → Int32 → Int32 → Prop) (σ : MS) (x12 : Int32) (x13 : Int32) (x14 : Int32) (x15 : Int32) : Prop := (x15 = 0 → (∀ x17 : Int32, x17 = x14 + 1 → K19 σ x12 x13 x17)) ∧ (¬ (x15 = 0) → wM_isSafe (fun r19 s18 => (∀ v21 : Int32, v21 = (if r19 = 0 then x13 else x14) → (∀ x23 : Int32, x23 = x14 + 1 → K19 s18 x12 v21 x23))) σ x12 x14)
def wM_safe_J63 (post : Int32 → MS → Prop) (K19 : MS → Int32 → Int32 → Int32 → Prop) (σ : MS) (x9 : Int32) (x10 : Int32) (x11 : Int32) : Prop := wM_safe_J68 post K19 σ x9 x10 x11 1
def wM_safe_J67 (post : Int32 → MS → Prop) (K19 : MS → Int32 → Int32 → Int32 → Prop) (σ : MS) (x34 : Int32) (x35 : Int32) (x36 : Int32) : Prop := wM_safe_J68 post K19 σ x34 x35 x36 0
def wM_safe_L19 (post : Int32 → MS → Prop) : Nat → MS → Int32 → Int32 → Int32 → Prop
  | 0, _, _, _, _ => False
  | n + 1, σ, x4, x5, x6 => (((1 : Int32) <<< ((σ 55 0) &&& 31)) ≤ x6 → post x5 σ) ∧ (¬ (((1 : Int32) <<< ((σ 55 0) &&& 31)) ≤ x6) → (x5 < 0 → wM_safe_J63 post (wM_safe_L19 post n) σ x4 x5 x6) ∧ (¬ (x5 < 0) → wM_many (fun r25 s24 => wM_many (fun r27 s26 => (r25 < r27 → wM_safe_J63 post (wM_safe_L19 post n) s26 x4 x5 x6) ∧ (¬ (r25 < r27) → wM_many (fun r30 s29 => wM_many (fun r32 s31 => (¬ (r30 = r32) → wM_safe_J67 post (wM_safe_L19 post n) s31 x4 x5 x6) ∧ (r30 = r32 → wM_isAhead (fun r38 s37 => (∀ v40 : Int32, v40 = (if r38 = 0 then 0 else 1) → (v40 = 0 → (∀ x43 : Int32, x43 = x6 + 1 → wM_safe_L19 post n s37 x4 x5 x43)) ∧ (¬ (v40 = 0) → wM_isSafe (fun r45 s44 => (∀ v47 : Int32, v47 = (if r45 = 0 then x5 else x6) → (∀ x49 : Int32, x49 = x6 + 1 → wM_safe_L19 post n s44 x4 v47 x49))) s37 x4 x6))) s31 x6 x5)) s29 x5) s26 x6)) s24 x5) σ x6))
def wM_safe (post : Int32 → MS → Prop) (σ : MS) (a1 : Int32) : Prop := wM_in (fun r2 s1 => (¬ (r2 = 0) → ∃ n50, wM_safe_L19 post n50 s1 a1 (-4) 0) ∧ (r2 = 0 → post (-1) s1)) σ a1.toInt64 0 15
abbrev rM_safe : Room := { frames := 3, cells := 0, slots := 0, locals := 76 }
set_option maxHeartbeats 4000000 in
set_option maxRecDepth 100000 in
theorem kM_safe_J68 {p : Program} {l : Launch} {e : Env} {s : State} {m : MethodId} {args : Array Value} {below : List Frame} {meth : Method} {c : Code} {g : MG} {post : Int32 → MS → Prop} {K19 : MS → Int32 → Int32 → Int32 → Prop} (F : gFx p s m c meth args cX3_safe 5 RX3 (some .int) (mD g) (mcl g) (mty g)) (hO : MOK g) (hK19 : ∀ (σ : MS) (z0 : Int32) (z1 : Int32) (z2 : Int32) (H : Heap) (locs : List Loc) (ls : Array Slot), gSt (MWd g) (MA g) s σ H locs → lv_has ls 5 [(0, .ref (mad g 62)), (1, .int z0), (2, .int z1), (3, .int z2)] → K19 σ z0 z1 z2 → W p l e rM_safe s m args below meth c H locs 0 0 (MQ below (va_Qi post (gB (MWd g)) (MA g)) args s 0 0 (MA g)) (F0 m 19 ls [])) : ∀ (σ : MS) (x12 : Int32) (x13 : Int32) (x14 : Int32) (x15 : Int32) (H : Heap) (locs : List Loc) (ls : Array Slot), gSt (MWd g) (MA g) s σ H locs → lv_has ls 5 [(0, .ref (mad g 62)), (1, .int x12), (2, .int x13), (3, .int x14)] → wM_safe_J68 post K19 σ x12 x13 x14 x15 → W p l e rM_safe s m args below meth c H locs 0 0 (MQ below (va_Qi post (gB (MWd g)) (MA g)) args s 0 0 (MA g)) (F0 m 68 ls [.int x15]) := by
  have hx := F.hx
  have hb := F.hb
  have hts := F.1.2.2.2.2
  have hown := F.1.2.2.2.1
  intro σ x12 x13 x14 x15 H locs ls hS hl h
  rw [wM_safe_J68] at h
  refine lv_istore (lv' := [(4, .int x15), (0, .ref (mad g 62)), (1, .int x12), (2, .int x13), (3, .int x14)]) hx hb dX3_safe_68 hl (by decide) rfl (fun ls hl => ?_)
  refine lv_iload hx hb dX3_safe_70 (lv_at hl 0 rfl) ?_
  refine lv_if_eq (tgt := 88) hx hb dX3_safe_72 (by decide) (fun c16 => ?_) (fun c16 => ?_)
  · have h := h.1 c16
    refine lv_iload_n hx hb dX3_safe_88 rfl (lv_at hl 3 rfl) ?_
    refine lv_istore_n (lv' := [(2, .int x13), (4, .int x15), (0, .ref (mad g 62)), (1, .int x12), (3, .int x14)]) hx hb dX3_safe_89 rfl hl (by decide) rfl (fun ls hl => ?_)
    obtain ⟨x17, ex17⟩ : ∃ y : Int32, y = x14 + 1 := ⟨_, rfl⟩
    have h := h x17 ex17
    refine lv_iinc (v := x17) (lv' := [(3, .int x17), (2, .int x13), (4, .int x15), (0, .ref (mad g 62)), (1, .int x12)]) hx hb dX3_safe_90 hl (k := 4) rfl (by rw [ex17]; rfl) (by decide) rfl (fun ls hl => ?_)
    refine lv_goto (tgt := 19) hx hb dX3_safe_93 (by decide) ?_
    exact hK19 σ x12 x13 x17 H locs ls hS (lv_sub hl [3, 4, 1, 0] rfl) h
  · have h := h.2 c16
    refine lv_aload_n hx hb dX3_safe_75 rfl (lv_at hl 1 rfl) ?_
    refine lv_iload_n hx hb dX3_safe_76 rfl (lv_at hl 2 rfl) ?_
    refine lv_iload_n hx hb dX3_safe_77 rfl (lv_at hl 4 rfl) ?_
    refine gw_callVi (As := [.int x12, .int x14]) (rest := []) F hS (tM_isSafe l g hO σ x12 x14 _ h) (cwV 2 hts (lw_V q1955 q1957 qs80 q90 q1958) rfl rfl rfl (by decide +kernel) ⟨Nat.le_of_ble_eq_true rfl, Nat.le_of_ble_eq_true rfl⟩) (m_rec F hO hS) rfl hl.1 rfl (Nat.le_of_ble_eq_true rfl) dX3_safe_78 ⟨Nat.le_refl 0, Nat.le_refl 0⟩ (fun r19 s18 H locs h hS => ?_)
    obtain ⟨zr19, h⟩ := h
    refine gcut (P := ∀ (v21 : Int32) (H : Heap) (locs : List Loc) (ls : Array Slot), v21 = (if r19 = 0 then x13 else x14) → gSt (MWd g) (MA g) s s18 H locs → lv_has ls 5 [(0, .ref (mad g 62)), (1, .int x12), (3, .int x14)] → W p l e rM_safe s m args below meth c H locs 0 0 (MQ below (va_Qi post (gB (MWd g)) (MA g)) args s 0 0 (MA g)) (F0 m 89 ls [.int v21])) (fun v21 H locs ls ev21 hS hl => ?_) (fun J22 => ?_)
    · have h := h v21 ev21
      refine lv_istore_n (lv' := [(2, .int v21), (0, .ref (mad g 62)), (1, .int x12), (3, .int x14)]) hx hb dX3_safe_89 rfl hl (by decide) rfl (fun ls hl => ?_)
      obtain ⟨x23, ex23⟩ : ∃ y : Int32, y = x14 + 1 := ⟨_, rfl⟩
      have h := h x23 ex23
      refine lv_iinc (v := x23) (lv' := [(3, .int x23), (2, .int v21), (0, .ref (mad g 62)), (1, .int x12)]) hx hb dX3_safe_90 hl (k := 3) rfl (by rw [ex23]; rfl) (by decide) rfl (fun ls hl => ?_)
      refine lv_goto (tgt := 19) hx hb dX3_safe_93 (by decide) ?_
      exact hK19 s18 x12 v21 x23 H locs ls hS (lv_sub hl [2, 3, 1, 0] rfl) h
    · refine lv_if_eq (tgt := 88) hx hb dX3_safe_81 (by decide) (fun c20 => ?_) (fun c20 => ?_)
      · refine lv_iload_n hx hb dX3_safe_88 rfl (lv_at hl 3 rfl) ?_
        exact J22 _ H locs ls (by first | with_reducible rfl | ((try rw [if_pos c20]); done)) hS (lv_sub hl [1, 2, 4] rfl)
      · refine lv_iload_n hx hb dX3_safe_84 rfl (lv_at hl 4 rfl) ?_
        refine lv_goto (tgt := 89) hx hb dX3_safe_85 (by decide) ?_
        exact J22 _ H locs ls (by first | with_reducible rfl | ((try rw [if_neg c20]); done)) hS (lv_sub hl [1, 2, 4] rfl)
set_option maxHeartbeats 4000000 in
set_option maxRecDepth 100000 in
theorem kM_safe_J63 {p : Program} {l : Launch} {e : Env} {s : State} {m : MethodId} {args : Array Value} {below : List Frame} {meth : Method} {c : Code} {g : MG} {post : Int32 → MS → Prop} {K19 : MS → Int32 → Int32 → Int32 → Prop} (F : gFx p s m c meth args cX3_safe 5 RX3 (some .int) (mD g) (mcl g) (mty g)) (hO : MOK g) (hK19 : ∀ (σ : MS) (z0 : Int32) (z1 : Int32) (z2 : Int32) (H : Heap) (locs : List Loc) (ls : Array Slot), gSt (MWd g) (MA g) s σ H locs → lv_has ls 5 [(0, .ref (mad g 62)), (1, .int z0), (2, .int z1), (3, .int z2)] → K19 σ z0 z1 z2 → W p l e rM_safe s m args below meth c H locs 0 0 (MQ below (va_Qi post (gB (MWd g)) (MA g)) args s 0 0 (MA g)) (F0 m 19 ls [])) : ∀ (σ : MS) (x9 : Int32) (x10 : Int32) (x11 : Int32) (H : Heap) (locs : List Loc) (ls : Array Slot), gSt (MWd g) (MA g) s σ H locs → lv_has ls 5 [(0, .ref (mad g 62)), (1, .int x9), (2, .int x10), (3, .int x11)] → wM_safe_J63 post K19 σ x9 x10 x11 → W p l e rM_safe s m args below meth c H locs 0 0 (MQ below (va_Qi post (gB (MWd g)) (MA g)) args s 0 0 (MA g)) (F0 m 63 ls []) := by
  have hx := F.hx
  have hb := F.hb
  have hts := F.1.2.2.2.2
  have hown := F.1.2.2.2.1
  intro σ x9 x10 x11 H locs ls hS hl h
  rw [wM_safe_J63] at h
  refine lv_iconst (v := 1) hx hb dX3_safe_63 (by decide) ?_
  refine lv_goto (tgt := 68) hx hb dX3_safe_64 (by decide) ?_
  exact (kM_safe_J68 F hO hK19) σ x9 x10 x11 1 H locs ls hS (lv_sub hl [0, 1, 2, 3] rfl) h
set_option maxHeartbeats 4000000 in
set_option maxRecDepth 100000 in
theorem kM_safe_J67 {p : Program} {l : Launch} {e : Env} {s : State} {m : MethodId} {args : Array Value} {below : List Frame} {meth : Method} {c : Code} {g : MG} {post : Int32 → MS → Prop} {K19 : MS → Int32 → Int32 → Int32 → Prop} (F : gFx p s m c meth args cX3_safe 5 RX3 (some .int) (mD g) (mcl g) (mty g)) (hO : MOK g) (hK19 : ∀ (σ : MS) (z0 : Int32) (z1 : Int32) (z2 : Int32) (H : Heap) (locs : List Loc) (ls : Array Slot), gSt (MWd g) (MA g) s σ H locs → lv_has ls 5 [(0, .ref (mad g 62)), (1, .int z0), (2, .int z1), (3, .int z2)] → K19 σ z0 z1 z2 → W p l e rM_safe s m args below meth c H locs 0 0 (MQ below (va_Qi post (gB (MWd g)) (MA g)) args s 0 0 (MA g)) (F0 m 19 ls [])) : ∀ (σ : MS) (x34 : Int32) (x35 : Int32) (x36 : Int32) (H : Heap) (locs : List Loc) (ls : Array Slot), gSt (MWd g) (MA g) s σ H locs → lv_has ls 5 [(0, .ref (mad g 62)), (1, .int x34), (2, .int x35), (3, .int x36)] → wM_safe_J67 post K19 σ x34 x35 x36 → W p l e rM_safe s m args below meth c H locs 0 0 (MQ below (va_Qi post (gB (MWd g)) (MA g)) args s 0 0 (MA g)) (F0 m 67 ls []) := by
  have hx := F.hx
  have hb := F.hb
  have hts := F.1.2.2.2.2
  have hown := F.1.2.2.2.1
  intro σ x34 x35 x36 H locs ls hS hl h
  rw [wM_safe_J67] at h
  refine lv_iconst (v := 0) hx hb dX3_safe_67 (by decide) ?_
  exact (kM_safe_J68 F hO hK19) σ x34 x35 x36 0 H locs ls hS (lv_sub hl [0, 1, 2, 3] rfl) h
set_option maxHeartbeats 4000000 in
set_option maxRecDepth 100000 in
theorem kM_safe_L19 {p : Program} {l : Launch} {e : Env} {s : State} {m : MethodId} {args : Array Value} {below : List Frame} {meth : Method} {c : Code} {g : MG} {post : Int32 → MS → Prop} (F : gFx p s m c meth args cX3_safe 5 RX3 (some .int) (mD g) (mcl g) (mty g)) (hO : MOK g) : ∀ (n : Nat) (σ : MS) (x4 : Int32) (x5 : Int32) (x6 : Int32) (H : Heap) (locs : List Loc) (ls : Array Slot), gSt (MWd g) (MA g) s σ H locs → lv_has ls 5 [(0, .ref (mad g 62)), (1, .int x4), (2, .int x5), (3, .int x6)] → wM_safe_L19 post n σ x4 x5 x6 → W p l e rM_safe s m args below meth c H locs 0 0 (MQ below (va_Qi post (gB (MWd g)) (MA g)) args s 0 0 (MA g)) (F0 m 19 ls []) := by
  have hx := F.hx
  have hb := F.hb
  have hts := F.1.2.2.2.2
  have hown := F.1.2.2.2.1
  intro n
  induction n with
  | zero =>
    intro σ x4 x5 x6 H locs ls hS hl h
    exact False.elim h
  | succ n ih =>
    intro σ x4 x5 x6 H locs ls hS hl h
    rw [wM_safe_L19] at h
    refine lv_iload_n hx hb dX3_safe_19 rfl (lv_at hl 3 rfl) ?_
    refine lv_iconst (v := 1) hx hb dX3_safe_20 (by decide) ?_
    refine lv_aload_n hx hb dX3_safe_21 rfl (lv_at hl 0 rfl) ?_
    refine m_geti F hO hS 55 (by decide) rfl q1452 dX3_safe_22 ?_
    refine lv_ishl hx hb dX3_safe_25 ?_
    refine lv_icmp_ge (tgt := 96) hx hb dX3_safe_26 (by decide) (fun c7 => ?_) (fun c7 => ?_)
    · have h := h.1 c7
      refine lv_iload_n hx hb dX3_safe_96 rfl (lv_at hl 2 rfl) ?_
      exact gw_iret F hS h dX3_safe_97
    · have h := h.2 c7
      refine lv_iload_n hx hb dX3_safe_29 rfl (lv_at hl 2 rfl) ?_
      refine lv_if_lt (tgt := 63) hx hb dX3_safe_30 (by decide) (fun c8 => ?_) (fun c8 => ?_)
      · have h := h.1 c8
        exact (kM_safe_J63 F hO ih) σ x4 x5 x6 H locs ls hS (lv_sub hl [0, 1, 2, 3] rfl) h
      · have h := h.2 c8
        refine lv_iload_n hx hb dX3_safe_33 rfl (lv_at hl 3 rfl) ?_
        refine gw_callSi (As := [.int x6]) (rest := []) F hS (tM_many l g hO σ x6 _ h) (va_cwS 1 hts (lw_S q1751 q1752 q90 q1753) rfl rfl rfl (by decide +kernel) ⟨Nat.le_of_ble_eq_true rfl, Nat.le_of_ble_eq_true rfl⟩) rfl hl.1 rfl (Nat.le_of_ble_eq_true rfl) dX3_safe_34 ⟨Nat.le_refl 0, Nat.le_refl 0⟩ (fun r25 s24 H locs h hS => ?_)
        refine lv_iload_n hx hb dX3_safe_37 rfl (lv_at hl 2 rfl) ?_
        refine gw_callSi (As := [.int x5]) (rest := [.int r25]) F hS (tM_many l g hO s24 x5 _ h) (va_cwS 1 hts (lw_S q1751 q1752 q90 q1753) rfl rfl rfl (by decide +kernel) ⟨Nat.le_of_ble_eq_true rfl, Nat.le_of_ble_eq_true rfl⟩) rfl hl.1 rfl (Nat.le_of_ble_eq_true rfl) dX3_safe_38 ⟨Nat.le_refl 0, Nat.le_refl 0⟩ (fun r27 s26 H locs h hS => ?_)
        refine lv_icmp_lt (tgt := 63) hx hb dX3_safe_41 (by decide) (fun c28 => ?_) (fun c28 => ?_)
        · have h := h.1 c28
          exact (kM_safe_J63 F hO ih) s26 x4 x5 x6 H locs ls hS (lv_sub hl [0, 1, 2, 3] rfl) h
        · have h := h.2 c28
          refine lv_iload_n hx hb dX3_safe_44 rfl (lv_at hl 3 rfl) ?_
          refine gw_callSi (As := [.int x6]) (rest := []) F hS (tM_many l g hO s26 x6 _ h) (va_cwS 1 hts (lw_S q1751 q1752 q90 q1753) rfl rfl rfl (by decide +kernel) ⟨Nat.le_of_ble_eq_true rfl, Nat.le_of_ble_eq_true rfl⟩) rfl hl.1 rfl (Nat.le_of_ble_eq_true rfl) dX3_safe_45 ⟨Nat.le_refl 0, Nat.le_refl 0⟩ (fun r30 s29 H locs h hS => ?_)
          refine lv_iload_n hx hb dX3_safe_48 rfl (lv_at hl 2 rfl) ?_
          refine gw_callSi (As := [.int x5]) (rest := [.int r30]) F hS (tM_many l g hO s29 x5 _ h) (va_cwS 1 hts (lw_S q1751 q1752 q90 q1753) rfl rfl rfl (by decide +kernel) ⟨Nat.le_of_ble_eq_true rfl, Nat.le_of_ble_eq_true rfl⟩) rfl hl.1 rfl (Nat.le_of_ble_eq_true rfl) dX3_safe_49 ⟨Nat.le_refl 0, Nat.le_refl 0⟩ (fun r32 s31 H locs h hS => ?_)
          refine lv_icmp_ne (tgt := 67) hx hb dX3_safe_52 (by decide) (fun c33 => ?_) (fun c33 => ?_)
          · have h := h.1 c33
            exact (kM_safe_J67 F hO ih) s31 x4 x5 x6 H locs ls hS (lv_sub hl [0, 1, 2, 3] rfl) h
          · have h := h.2 c33
            refine lv_iload_n hx hb dX3_safe_55 rfl (lv_at hl 3 rfl) ?_
            refine lv_iload_n hx hb dX3_safe_56 rfl (lv_at hl 2 rfl) ?_
            refine gw_callSi (As := [.int x6, .int x5]) (rest := []) F hS (tM_isAhead l g hO s31 x6 x5 _ h) (va_cwS 2 hts (lw_S q1914 q1915 q90 q1916) rfl rfl rfl (by decide +kernel) ⟨Nat.le_of_ble_eq_true rfl, Nat.le_of_ble_eq_true rfl⟩) rfl hl.1 rfl (Nat.le_of_ble_eq_true rfl) dX3_safe_57 ⟨Nat.le_refl 0, Nat.le_refl 0⟩ (fun r38 s37 H locs h hS => ?_)
            obtain ⟨zr38, h⟩ := h
            refine gcut (P := ∀ (v40 : Int32) (H : Heap) (locs : List Loc) (ls : Array Slot), v40 = (if r38 = 0 then 0 else 1) → gSt (MWd g) (MA g) s s37 H locs → lv_has ls 5 [(0, .ref (mad g 62)), (1, .int x4), (2, .int x5), (3, .int x6)] → W p l e rM_safe s m args below meth c H locs 0 0 (MQ below (va_Qi post (gB (MWd g)) (MA g)) args s 0 0 (MA g)) (F0 m 68 ls [.int v40])) (fun v40 H locs ls ev40 hS hl => ?_) (fun J41 => ?_)
            · have h := h v40 ev40
              refine lv_istore (lv' := [(4, .int v40), (0, .ref (mad g 62)), (1, .int x4), (2, .int x5), (3, .int x6)]) hx hb dX3_safe_68 hl (by decide) rfl (fun ls hl => ?_)
              refine lv_iload hx hb dX3_safe_70 (lv_at hl 0 rfl) ?_
              refine lv_if_eq (tgt := 88) hx hb dX3_safe_72 (by decide) (fun c42 => ?_) (fun c42 => ?_)
              · have h := h.1 c42
                refine lv_iload_n hx hb dX3_safe_88 rfl (lv_at hl 3 rfl) ?_
                refine lv_istore_n (lv' := [(2, .int x5), (4, .int v40), (0, .ref (mad g 62)), (1, .int x4), (3, .int x6)]) hx hb dX3_safe_89 rfl hl (by decide) rfl (fun ls hl => ?_)
                obtain ⟨x43, ex43⟩ : ∃ y : Int32, y = x6 + 1 := ⟨_, rfl⟩
                have h := h x43 ex43
                refine lv_iinc (v := x43) (lv' := [(3, .int x43), (2, .int x5), (4, .int v40), (0, .ref (mad g 62)), (1, .int x4)]) hx hb dX3_safe_90 hl (k := 4) rfl (by rw [ex43]; rfl) (by decide) rfl (fun ls hl => ?_)
                refine lv_goto (tgt := 19) hx hb dX3_safe_93 (by decide) ?_
                exact ih s37 x4 x5 x43 H locs ls hS (lv_sub hl [3, 4, 1, 0] rfl) h
              · have h := h.2 c42
                refine lv_aload_n hx hb dX3_safe_75 rfl (lv_at hl 1 rfl) ?_
                refine lv_iload_n hx hb dX3_safe_76 rfl (lv_at hl 2 rfl) ?_
                refine lv_iload_n hx hb dX3_safe_77 rfl (lv_at hl 4 rfl) ?_
                refine gw_callVi (As := [.int x4, .int x6]) (rest := []) F hS (tM_isSafe l g hO s37 x4 x6 _ h) (cwV 2 hts (lw_V q1955 q1957 qs80 q90 q1958) rfl rfl rfl (by decide +kernel) ⟨Nat.le_of_ble_eq_true rfl, Nat.le_of_ble_eq_true rfl⟩) (m_rec F hO hS) rfl hl.1 rfl (Nat.le_of_ble_eq_true rfl) dX3_safe_78 ⟨Nat.le_refl 0, Nat.le_refl 0⟩ (fun r45 s44 H locs h hS => ?_)
                obtain ⟨zr45, h⟩ := h
                refine gcut (P := ∀ (v47 : Int32) (H : Heap) (locs : List Loc) (ls : Array Slot), v47 = (if r45 = 0 then x5 else x6) → gSt (MWd g) (MA g) s s44 H locs → lv_has ls 5 [(0, .ref (mad g 62)), (1, .int x4), (3, .int x6)] → W p l e rM_safe s m args below meth c H locs 0 0 (MQ below (va_Qi post (gB (MWd g)) (MA g)) args s 0 0 (MA g)) (F0 m 89 ls [.int v47])) (fun v47 H locs ls ev47 hS hl => ?_) (fun J48 => ?_)
                · have h := h v47 ev47
                  refine lv_istore_n (lv' := [(2, .int v47), (0, .ref (mad g 62)), (1, .int x4), (3, .int x6)]) hx hb dX3_safe_89 rfl hl (by decide) rfl (fun ls hl => ?_)
                  obtain ⟨x49, ex49⟩ : ∃ y : Int32, y = x6 + 1 := ⟨_, rfl⟩
                  have h := h x49 ex49
                  refine lv_iinc (v := x49) (lv' := [(3, .int x49), (2, .int v47), (0, .ref (mad g 62)), (1, .int x4)]) hx hb dX3_safe_90 hl (k := 3) rfl (by rw [ex49]; rfl) (by decide) rfl (fun ls hl => ?_)
                  refine lv_goto (tgt := 19) hx hb dX3_safe_93 (by decide) ?_
                  exact ih s44 x4 v47 x49 H locs ls hS (lv_sub hl [2, 3, 1, 0] rfl) h
                · refine lv_if_eq (tgt := 88) hx hb dX3_safe_81 (by decide) (fun c46 => ?_) (fun c46 => ?_)
                  · refine lv_iload_n hx hb dX3_safe_88 rfl (lv_at hl 3 rfl) ?_
                    exact J48 _ H locs ls (by first | with_reducible rfl | ((try rw [if_pos c46]); done)) hS (lv_sub hl [1, 2, 4] rfl)
                  · refine lv_iload_n hx hb dX3_safe_84 rfl (lv_at hl 4 rfl) ?_
                    refine lv_goto (tgt := 89) hx hb dX3_safe_85 (by decide) ?_
                    exact J48 _ H locs ls (by first | with_reducible rfl | ((try rw [if_neg c46]); done)) hS (lv_sub hl [1, 2, 4] rfl)
            · refine lv_if_eq (tgt := 67) hx hb dX3_safe_60 (by decide) (fun c39 => ?_) (fun c39 => ?_)
              · refine lv_iconst (v := 0) hx hb dX3_safe_67 (by decide) ?_
                exact J41 _ H locs ls (by first | with_reducible rfl | ((try rw [if_pos c39]); done)) hS (lv_sub hl [0, 1, 2, 3] rfl)
              · refine lv_iconst (v := 1) hx hb dX3_safe_63 (by decide) ?_
                refine lv_goto (tgt := 68) hx hb dX3_safe_64 (by decide) ?_
                exact J41 _ H locs ls (by first | with_reducible rfl | ((try rw [if_neg c39]); done)) hS (lv_sub hl [0, 1, 2, 3] rfl)
set_option maxHeartbeats 4000000 in
set_option maxRecDepth 100000 in
theorem kM_safe {p : Program} {l : Launch} {e : Env} {s : State} {m : MethodId} {args : Array Value} {below : List Frame} {meth : Method} {c : Code} {g : MG} {post : Int32 → MS → Prop} (F : gFx p s m c meth args cX3_safe 5 RX3 (some .int) (mD g) (mcl g) (mty g)) (hO : MOK g) (σ : MS) (a1 : Int32) (H : Heap) (locs : List Loc) (ls : Array Slot) (hS : gSt (MWd g) (MA g) s σ H locs) (hl : lv_has ls 5 [(0, .ref (mad g 62)), (1, .int a1)]) (h : wM_safe post σ a1) : W p l e rM_safe s m args below meth c H locs 0 0 (MQ below (va_Qi post (gB (MWd g)) (MA g)) args s 0 0 (MA g)) (F0 m 0 ls []) := by
  have hx := F.hx
  have hb := F.hb
  have hts := F.1.2.2.2.2
  have hown := F.1.2.2.2.1
  rw [wM_safe] at h
  refine lv_iload_n hx hb dX3_safe_0 rfl (lv_at hl 1 rfl) ?_
  refine lv_i2l hx hb dX3_safe_1 rfl ?_
  refine lv_lconst (v := 0) hx hb dX3_safe_2 (by decide) ?_
  refine lv_ldc2 (v := 15) hx hb hown (hts _ q1954) dX3_safe_3 ?_
  refine gw_callSi (As := [.long a1.toInt64, .long 0, .long 15]) (rest := []) F hS (tM_in l g hO σ a1.toInt64 0 15 _ h) (va_cwS 3 hts (lw_S q1593 q1594 q90 q1595) rfl rfl rfl (by decide +kernel) ⟨Nat.le_of_ble_eq_true rfl, Nat.le_of_ble_eq_true rfl⟩) rfl hl.1 rfl (Nat.le_of_ble_eq_true rfl) dX3_safe_6 ⟨Nat.le_refl 0, Nat.le_refl 0⟩ (fun r2 s1 H locs h hS => ?_)
  obtain ⟨zr2, h⟩ := h
  refine lv_if_ne (tgt := 14) hx hb dX3_safe_9 (by decide) (fun c3 => ?_) (fun c3 => ?_)
  · have h := h.1 c3
    refine lv_bipush (v := (-4)) hx hb dX3_safe_14 (by decide) ?_
    refine lv_istore_n (lv' := [(2, .int (-4)), (0, .ref (mad g 62)), (1, .int a1)]) hx hb dX3_safe_16 rfl hl (by decide) rfl (fun ls hl => ?_)
    refine lv_iconst (v := 0) hx hb dX3_safe_17 (by decide) ?_
    refine lv_istore_n (lv' := [(3, .int 0), (2, .int (-4)), (0, .ref (mad g 62)), (1, .int a1)]) hx hb dX3_safe_18 rfl hl (by decide) rfl (fun ls hl => ?_)
    obtain ⟨n50, h⟩ := h
    exact (kM_safe_L19 F hO n50) s1 a1 (-4) 0 H locs ls hS (lv_sub hl [2, 3, 1, 0] rfl) h
  · have h := h.2 c3
    refine lv_iconst (v := (-1)) hx hb dX3_safe_12 (by decide) ?_
    exact gw_iret F hS h dX3_safe_13
set_option maxHeartbeats 4000000 in
set_option maxRecDepth 100000 in
theorem tM_safe (l : Launch) (g : MG) (hO : MOK g) (σ : MS) (a1 : Int32) (post : Int32 → MS → Prop) (h : wM_safe post σ a1) : Met l yX3_safe (ws_ yX3_safe cX3_safe 5 (some .int)) rM_safe (va_Pc [.ref (mad g 62), .int a1] (gPre (MWd g) (mD g) (mcl g) (mty g) σ)) (va_Qi post (gB (MWd g)) (MA g)) 0 0 (MA g) := by
  refine Met.ofW (cc := cX3_safe) (maxL := 5) (ret := (some .int)) (by decide) rfl ?_
  intro p e s m args below meth c s₁ B hml hv
  obtain ⟨rfl, hW, hK⟩ := hv
  have hts := atoms_spec (ws := (ws_ yX3_safe cX3_safe 5 (some .int))) B.pre
  have hts : ∀ w ∈ lw_all, w.before _ s = true := fun w h => hts w (List.mem_cons_of_mem _ h)
  have hl := lv_entry ([.ref (mad g 62), .int a1]) (n := 5) (Nat.le_of_ble_eq_true rfl)
  rw [lg_entry_eq]
  generalize (lg_sl ([.ref (mad g 62), .int a1]) ++ List.replicate (5 - (lg_sl ([.ref (mad g 62), .int a1])).length) Slot.unset).toArray = ls at hl ⊢
  exact kM_safe ⟨⟨B.exec, B.bytes, hml, findClass_of_methodNamed B.named, hts⟩, hK, B.returns, B.notSynchronized⟩ hO σ a1 s.heap [] ls ⟨hW, va_S.rf⟩ hl h
