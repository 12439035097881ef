def wM_thinks_J72 (post : Int32 → MS → Prop) (σ : MS) (x17 : Int32) (x18 : Int32) (x19 : Int32) : Prop := wM_farOf (fun r21 s20 => (0 ≤ r21 → wM_isLit (fun r24 s23 => (∀ v26 : Int32, v26 = (if r24 = 0 then 0 else 1) → post v26 s23)) s20 x18 (x19 - r21)) ∧ (¬ (0 ≤ r21) → post (-4) s20)) σ x17 x18
def wM_thinks (post : Int32 → MS → Prop) (σ : MS) (a1 : Int32) (a2 : Int32) (a3 : Int32) : Prop := wM_isPlace (fun r2 s1 => (r2 = 0 → post (-1) s1) ∧ (¬ (r2 = 0) → wM_isPlace (fun r5 s4 => (r5 = 0 → post (-1) s4) ∧ (¬ (r5 = 0) → wM_in (fun r8 s7 => (¬ (r8 = 0) → wM_isHouse (fun r11 s10 => (r11 = 0 → post (-12) s10) ∧ (¬ (r11 = 0) → wM_isHouse (fun r14 s13 => (¬ (r14 = 0) → (a1 = a2 → wM_thinks_J72 post s13 a1 a2 a3) ∧ (¬ (a1 = a2) → (vp_in a1 16 ∧ (¬ ((((s13 8 a1.toNatClampNeg) >>> (a2 &&& 31)) &&& 1) = 0) → wM_thinks_J72 post s13 a1 a2 a3) ∧ ((((s13 8 a1.toNatClampNeg) >>> (a2 &&& 31)) &&& 1) = 0 → post (-2) s13)))) ∧ (r14 = 0 → post (-12) s13)) s10 a2)) s7 a1) ∧ (r8 = 0 → post (-1) s7)) s4 a3.toInt64 0 ((s4 0 0).toInt64))) s1 a2)) σ a1
abbrev rM_thinks : Room := { frames := 2, cells := 0, slots := 0, locals := 46 }
set_option maxHeartbeats 4000000 in
set_option maxRecDepth 100000 in
theorem kM_thinks_J72 {p : Program} {l : Launch} {e : Env} {s : State} {m : MethodId} {args : Array Value} {below : List Frame} {meth : Method} {c : Code} {g : MG} {post : Int32 → MS → Prop} (F : gFx p s m c meth args cX3_thinks 5 RX3 (some .int) (mD g) (mcl g) (mty g)) (hO : MOK g) : ∀ (σ : MS) (x17 : Int32) (x18 : Int32) (x19 : Int32) (H : Heap) (locs : List Loc) (ls : Array Slot), gSt (MWd g) (MA g) s σ H locs → lv_has ls 5 [(0, .ref (mad g 62)), (1, .int x17), (2, .int x18), (3, .int x19)] → wM_thinks_J72 post σ x17 x18 x19 → W p l e rM_thinks s m args below meth c H locs 0 0 (MQ below (va_Qi post (gB (MWd g)) (MA g)) args s 0 0 (MA g)) (F0 m 72 ls []) := by
  have hx := F.hx
  have hb := F.hb
  have hts := F.1.2.2.2.2
  have hown := F.1.2.2.2.1
  intro σ x17 x18 x19 H locs ls hS hl h
  rw [wM_thinks_J72] at h
  refine lv_aload_n hx hb dX3_thinks_72 rfl (lv_at hl 0 rfl) ?_
  refine lv_iload_n hx hb dX3_thinks_73 rfl (lv_at hl 1 rfl) ?_
  refine lv_iload_n hx hb dX3_thinks_74 rfl (lv_at hl 2 rfl) ?_
  refine gw_callVi (As := [.int x17, .int x18]) (rest := []) F hS (tM_farOf l g hO σ x17 x18 _ h) (cwV 2 hts (lw_V q1626 q1628 qs41 q90 q1629) rfl rfl rfl (by decide +kernel) ⟨Nat.le_of_ble_eq_true rfl, Nat.le_of_ble_eq_true rfl⟩) (m_rec F hO hS) rfl hl.1 rfl (Nat.le_of_ble_eq_true rfl) dX3_thinks_75 ⟨Nat.le_refl 0, Nat.le_refl 0⟩ (fun r21 s20 H locs h hS => ?_)
  refine lv_istore (lv' := [(4, .int r21), (0, .ref (mad g 62)), (1, .int x17), (2, .int x18), (3, .int x19)]) hx hb dX3_thinks_78 hl (by decide) rfl (fun ls hl => ?_)
  refine lv_iload hx hb dX3_thinks_80 (lv_at hl 0 rfl) ?_
  refine lv_if_ge (tgt := 90) hx hb dX3_thinks_82 (by decide) (fun c22 => ?_) (fun c22 => ?_)
  · have h := h.1 c22
    refine lv_aload_n hx hb dX3_thinks_90 rfl (lv_at hl 1 rfl) ?_
    refine lv_iload_n hx hb dX3_thinks_91 rfl (lv_at hl 3 rfl) ?_
    refine lv_iload_n hx hb dX3_thinks_92 rfl (lv_at hl 4 rfl) ?_
    refine lv_iload hx hb dX3_thinks_93 (lv_at hl 0 rfl) ?_
    refine lv_isub hx hb dX3_thinks_95 ?_
    refine gw_callVi (As := [.int x18, .int (x19 - r21)]) (rest := []) F hS (tM_isLit l g hO s20 x18 (x19 - r21) _ h) (cwV 2 hts (lw_V q1642 q1644 qs43 q90 q1645) rfl rfl rfl (by decide +kernel) ⟨Nat.le_of_ble_eq_true rfl, Nat.le_of_ble_eq_true rfl⟩) (m_rec F hO hS) rfl hl.1 rfl (Nat.le_of_ble_eq_true rfl) dX3_thinks_96 ⟨Nat.le_refl 0, Nat.le_refl 0⟩ (fun r24 s23 H locs h hS => ?_)
    obtain ⟨zr24, h⟩ := h
    refine gcut (P := ∀ (v26 : Int32) (H : Heap) (locs : List Loc) (ls : Array Slot), v26 = (if r24 = 0 then 0 else 1) → gSt (MWd g) (MA g) s s23 H locs → lv_has ls 5 [] → W p l e rM_thinks s m args below meth c H locs 0 0 (MQ below (va_Qi post (gB (MWd g)) (MA g)) args s 0 0 (MA g)) (F0 m 107 ls [.int v26])) (fun v26 H locs ls ev26 hS hl => ?_) (fun J27 => ?_)
    · have h := h v26 ev26
      exact gw_iret F hS h dX3_thinks_107
    · refine lv_if_eq (tgt := 106) hx hb dX3_thinks_99 (by decide) (fun c25 => ?_) (fun c25 => ?_)
      · refine lv_iconst (v := 0) hx hb dX3_thinks_106 (by decide) ?_
        exact J27 _ H locs ls (by first | with_reducible rfl | ((try rw [if_pos c25]); done)) hS (lv_sub hl [] rfl)
      · refine lv_iconst (v := 1) hx hb dX3_thinks_102 (by decide) ?_
        refine lv_goto (tgt := 107) hx hb dX3_thinks_103 (by decide) ?_
        exact J27 _ H locs ls (by first | with_reducible rfl | ((try rw [if_neg c25]); done)) hS (lv_sub hl [] rfl)
  · have h := h.2 c22
    refine lv_bipush (v := (-4)) hx hb dX3_thinks_85 (by decide) ?_
    refine lv_goto (tgt := 107) hx hb dX3_thinks_87 (by decide) ?_
    exact gw_iret F hS h dX3_thinks_107
set_option maxHeartbeats 4000000 in
set_option maxRecDepth 100000 in
theorem kM_thinks {p : Program} {l : Launch} {e : Env} {s : State} {m : MethodId} {args : Array Value} {below : List Frame} {meth : Method} {c : Code} {g : MG} {post : Int32 → MS → Prop} (F : gFx p s m c meth args cX3_thinks 5 RX3 (some .int) (mD g) (mcl g) (mty g)) (hO : MOK g) (σ : MS) (a1 : Int32) (a2 : Int32) (a3 : Int32) (H : Heap) (locs : List Loc) (ls : Array Slot) (hS : gSt (MWd g) (MA g) s σ H locs) (hl : lv_has ls 5 [(0, .ref (mad g 62)), (1, .int a1), (2, .int a2), (3, .int a3)]) (h : wM_thinks post σ a1 a2 a3) : W p l e rM_thinks s m args below meth c H locs 0 0 (MQ below (va_Qi post (gB (MWd g)) (MA g)) args s 0 0 (MA g)) (F0 m 0 ls []) := by
  have hx := F.hx
  have hb := F.hb
  have hts := F.1.2.2.2.2
  have hown := F.1.2.2.2.1
  rw [wM_thinks] at h
  refine lv_aload_n hx hb dX3_thinks_0 rfl (lv_at hl 0 rfl) ?_
  refine lv_iload_n hx hb dX3_thinks_1 rfl (lv_at hl 1 rfl) ?_
  refine gw_callVi (As := [.int a1]) (rest := []) F hS (tM_isPlace l g hO σ a1 _ h) (cwV 1 hts (lw_V q1618 q1620 qs40 q90 q1621) rfl rfl rfl (by decide +kernel) ⟨Nat.le_of_ble_eq_true rfl, Nat.le_of_ble_eq_true rfl⟩) (m_rec F hO hS) rfl hl.1 rfl (Nat.le_of_ble_eq_true rfl) dX3_thinks_2 ⟨Nat.le_refl 0, Nat.le_refl 0⟩ (fun r2 s1 H locs h hS => ?_)
  obtain ⟨zr2, h⟩ := h
  refine lv_if_eq (tgt := 30) hx hb dX3_thinks_5 (by decide) (fun c3 => ?_) (fun c3 => ?_)
  · have h := h.1 c3
    refine lv_iconst (v := (-1)) hx hb dX3_thinks_30 (by decide) ?_
    exact gw_iret F hS h dX3_thinks_31
  · have h := h.2 c3
    refine lv_aload_n hx hb dX3_thinks_8 rfl (lv_at hl 0 rfl) ?_
    refine lv_iload_n hx hb dX3_thinks_9 rfl (lv_at hl 2 rfl) ?_
    refine gw_callVi (As := [.int a2]) (rest := []) F hS (tM_isPlace l g hO s1 a2 _ h) (cwV 1 hts (lw_V q1618 q1620 qs40 q90 q1621) rfl rfl rfl (by decide +kernel) ⟨Nat.le_of_ble_eq_true rfl, Nat.le_of_ble_eq_true rfl⟩) (m_rec F hO hS) rfl hl.1 rfl (Nat.le_of_ble_eq_true rfl) dX3_thinks_10 ⟨Nat.le_refl 0, Nat.le_refl 0⟩ (fun r5 s4 H locs h hS => ?_)
    obtain ⟨zr5, h⟩ := h
    refine lv_if_eq (tgt := 30) hx hb dX3_thinks_13 (by decide) (fun c6 => ?_) (fun c6 => ?_)
    · have h := h.1 c6
      refine lv_iconst (v := (-1)) hx hb dX3_thinks_30 (by decide) ?_
      exact gw_iret F hS h dX3_thinks_31
    · have h := h.2 c6
      refine lv_iload_n hx hb dX3_thinks_16 rfl (lv_at hl 3 rfl) ?_
      refine lv_i2l hx hb dX3_thinks_17 rfl ?_
      refine lv_lconst (v := 0) hx hb dX3_thinks_18 (by decide) ?_
      refine lv_aload_n hx hb dX3_thinks_19 rfl (lv_at hl 0 rfl) ?_
      refine m_geti F hO hS 0 (by decide) rfl q1397 dX3_thinks_20 ?_
      refine lv_i2l hx hb dX3_thinks_23 rfl ?_
      refine gw_callSi (As := [.long a3.toInt64, .long 0, .long ((s4 0 0).toInt64)]) (rest := []) F hS (tM_in l g hO s4 a3.toInt64 0 ((s4 0 0).toInt64) _ h) (va_cwS 3 hts (lw_S q1593 q1594 q90 q1595) rfl rfl rfl (by decide +kernel) ⟨Nat.le_of_ble_eq_true rfl, Nat.le_of_ble_eq_true rfl⟩) rfl hl.1 rfl (Nat.le_of_ble_eq_true rfl) dX3_thinks_24 ⟨Nat.le_refl 0, Nat.le_refl 0⟩ (fun r8 s7 H locs h hS => ?_)
      obtain ⟨zr8, h⟩ := h
      refine lv_if_ne (tgt := 32) hx hb dX3_thinks_27 (by decide) (fun c9 => ?_) (fun c9 => ?_)
      · have h := h.1 c9
        refine lv_aload_n hx hb dX3_thinks_32 rfl (lv_at hl 0 rfl) ?_
        refine lv_iload_n hx hb dX3_thinks_33 rfl (lv_at hl 1 rfl) ?_
        refine gw_callVi (As := [.int a1]) (rest := []) F hS (tM_isHouse l g hO s7 a1 _ h) (cwV 1 hts (lw_V q1634 q1636 qs42 q90 q1637) rfl rfl rfl (by decide +kernel) ⟨Nat.le_of_ble_eq_true rfl, Nat.le_of_ble_eq_true rfl⟩) (m_rec F hO hS) rfl hl.1 rfl (Nat.le_of_ble_eq_true rfl) dX3_thinks_34 ⟨Nat.le_refl 0, Nat.le_refl 0⟩ (fun r11 s10 H locs h hS => ?_)
        obtain ⟨zr11, h⟩ := h
        refine lv_if_eq (tgt := 48) hx hb dX3_thinks_37 (by decide) (fun c12 => ?_) (fun c12 => ?_)
        · have h := h.1 c12
          refine lv_bipush (v := (-12)) hx hb dX3_thinks_48 (by decide) ?_
          exact gw_iret F hS h dX3_thinks_50
        · have h := h.2 c12
          refine lv_aload_n hx hb dX3_thinks_40 rfl (lv_at hl 0 rfl) ?_
          refine lv_iload_n hx hb dX3_thinks_41 rfl (lv_at hl 2 rfl) ?_
          refine gw_callVi (As := [.int a2]) (rest := []) F hS (tM_isHouse l g hO s10 a2 _ h) (cwV 1 hts (lw_V q1634 q1636 qs42 q90 q1637) rfl rfl rfl (by decide +kernel) ⟨Nat.le_of_ble_eq_true rfl, Nat.le_of_ble_eq_true rfl⟩) (m_rec F hO hS) rfl hl.1 rfl (Nat.le_of_ble_eq_true rfl) dX3_thinks_42 ⟨Nat.le_refl 0, Nat.le_refl 0⟩ (fun r14 s13 H locs h hS => ?_)
          obtain ⟨zr14, h⟩ := h
          refine lv_if_ne (tgt := 51) hx hb dX3_thinks_45 (by decide) (fun c15 => ?_) (fun c15 => ?_)
          · have h := h.1 c15
            refine lv_iload_n hx hb dX3_thinks_51 rfl (lv_at hl 1 rfl) ?_
            refine lv_iload_n hx hb dX3_thinks_52 rfl (lv_at hl 2 rfl) ?_
            refine lv_icmp_eq (tgt := 72) hx hb dX3_thinks_53 (by decide) (fun c16 => ?_) (fun c16 => ?_)
            · have h := h.1 c16
              exact (kM_thinks_J72 F hO) s13 a1 a2 a3 H locs ls hS (lv_sub hl [0, 1, 2, 3] rfl) h
            · have h := h.2 c16
              refine lv_aload_n hx hb dX3_thinks_56 rfl (lv_at hl 0 rfl) ?_
              refine m_geta F hO hS 8 (by decide) rfl q1405 dX3_thinks_57 ?_
              refine lv_iload_n hx hb dX3_thinks_60 rfl (lv_at hl 1 rfl) ?_
              obtain ⟨b28, h⟩ := h
              refine m_iald F hS 8 6 rfl rfl b28 dX3_thinks_61 ?_
              refine lv_iload_n hx hb dX3_thinks_62 rfl (lv_at hl 2 rfl) ?_
              refine lv_ishr hx hb dX3_thinks_63 ?_
              refine lv_iconst (v := 1) hx hb dX3_thinks_64 (by decide) ?_
              refine lv_iand hx hb dX3_thinks_65 ?_
              refine lv_if_ne (tgt := 72) hx hb dX3_thinks_66 (by decide) (fun c29 => ?_) (fun c29 => ?_)
              · have h := h.1 c29
                exact (kM_thinks_J72 F hO) s13 a1 a2 a3 H locs ls hS (lv_sub hl [0, 1, 2, 3] rfl) h
              · have h := h.2 c29
                refine lv_bipush (v := (-2)) hx hb dX3_thinks_69 (by decide) ?_
                exact gw_iret F hS h dX3_thinks_71
          · have h := h.2 c15
            refine lv_bipush (v := (-12)) hx hb dX3_thinks_48 (by decide) ?_
            exact gw_iret F hS h dX3_thinks_50
      · have h := h.2 c9
        refine lv_iconst (v := (-1)) hx hb dX3_thinks_30 (by decide) ?_
        exact gw_iret F hS h dX3_thinks_31
set_option maxHeartbeats 4000000 in
set_option maxRecDepth 100000 in
theorem tM_thinks (l : Launch) (g : MG) (hO : MOK g) (σ : MS) (a1 : Int32) (a2 : Int32) (a3 : Int32) (post : Int32 → MS → Prop) (h : wM_thinks post σ a1 a2 a3) : Met l yX3_thinks (ws_ yX3_thinks cX3_thinks 5 (some .int)) rM_thinks (va_Pc [.ref (mad g 62), .int a1, .int a2, .int a3] (gPre (MWd g) (mD g) (mcl g) (mty g) σ)) (va_Qi post (gB (MWd g)) (MA g)) 0 0 (MA g) := by
  refine Met.ofW (cc := cX3_thinks) (maxL := 5) (ret := (some .int)) (by decide) rfl ?_
  intro p e s m args below meth c s₁ B hml hv
  obtain ⟨rfl, hW, hK⟩ := hv
  have hts := atoms_spec (ws := (ws_ yX3_thinks cX3_thinks 5 (some .int))) B.pre
  have hts : ∀ w ∈ lw_all, w.before _ s = true := fun w h => hts w (List.mem_cons_of_mem _ h)
  have hl := lv_entry ([.ref (mad g 62), .int a1, .int a2, .int a3]) (n := 5) (Nat.le_of_ble_eq_true rfl)
  rw [lg_entry_eq]
  generalize (lg_sl ([.ref (mad g 62), .int a1, .int a2, .int a3]) ++ List.replicate (5 - (lg_sl ([.ref (mad g 62), .int a1, .int a2, .int a3])).length) Slot.unset).toArray = ls at hl ⊢
  exact kM_thinks ⟨⟨B.exec, B.bytes, hml, findClass_of_methodNamed B.named, hts⟩, hK, B.returns, B.notSynchronized⟩ hO σ a1 a2 a3 s.heap [] ls ⟨hW, va_S.rf⟩ hl h
def wM_count_L7 (post : Int32 → MS → Prop) : Nat → MS → Int32 → Int32 → Int32 → Int32 → Prop
  | 0, _, _, _, _, _ => False
  | n + 1, σ, x1, x2, x3, x4 => ((σ 18 0) ≤ x4 → (x1 = 0 → post (σ 1 0) σ) ∧ (x1 = 1 → post (σ 18 0) σ) ∧ (x1 = 2 → post x2 σ) ∧ (x1 = 3 → post x3 σ) ∧ (x1 = 4 → post (σ 27 0) σ) ∧ (x1 = 5 → post (σ 30 0) σ) ∧ (x1 = 6 → post (σ 33 0) σ) ∧ (x1 = 7 → post (σ 0 0) σ) ∧ (¬ x1 = 0 → ¬ x1 = 1 → ¬ x1 = 2 → ¬ x1 = 3 → ¬ x1 = 4 → ¬ x1 = 5 → ¬ x1 = 6 → ¬ x1 = 7 → post (-1) σ)) ∧ (¬ ((σ 18 0) ≤ x4) → (vp_in x4 16 ∧ (∀ v16 : Int32, v16 = (if (σ 21 x4.toNatClampNeg) = 200 then 1 else 0) → (∀ x18 : Int32, x18 = x2 + v16 → vp_in x4 16 ∧ (∀ v21 : Int32, v21 = (if (σ 21 x4.toNatClampNeg) = 201 then 1 else 0) → (∀ x23 : Int32, x23 = x3 + v21 → ∀ x24 : Int32, x24 = x4 + 1 → wM_count_L7 post n σ x1 x18 x23 x24))))))
def wM_count (post : Int32 → MS → Prop) (σ : MS) (a1 : Int32) : Prop := ∃ n25, wM_count_L7 post n25 σ a1 0 0 0
abbrev rM_count : Room := { frames := 0, cells := 0, slots := 0, locals := 0 }
set_option maxHeartbeats 4000000 in
set_option maxRecDepth 100000 in
theorem kM_count_L7 {p : Program} {l : Launch} {e : Env} {s : State} {m : MethodId} {args : Array Value} {below : List Frame} {meth : Method} {c : Code} {g : MG} {post : Int32 → MS → Prop} (F : gFx p s m c meth args cX3_count 5 RX3 (some .int) (mD g) (mcl g) (mty g)) (hO : MOK g) : ∀ (n : Nat) (σ : MS) (x1 : Int32) (x2 : Int32) (x3 : Int32) (x4 : Int32) (H : Heap) (locs : List Loc) (ls : Array Slot), gSt (MWd g) (MA g) s σ H locs → lv_has ls 5 [(0, .ref (mad g 62)), (1, .int x1), (2, .int x2), (3, .int x3), (4, .int x4)] → wM_count_L7 post n σ x1 x2 x3 x4 → W p l e rM_count s m args below meth c H locs 0 0 (MQ below (va_Qi post (gB (MWd g)) (MA g)) args s 0 0 (MA g)) (F0 m 7 ls []) := by
  have hx := F.hx
  have hb := F.hb
  have hts := F.1.2.2.2.2
  have hown := F.1.2.2.2.1
  intro n
  induction n with
  | zero =>
    intro σ x1 x2 x3 x4 H locs ls hS hl h
    exact False.elim h
  | succ n ih =>
    intro σ x1 x2 x3 x4 H locs ls hS hl h
    rw [wM_count_L7] at h
    refine lv_iload hx hb dX3_count_7 (lv_at hl 4 rfl) ?_
    refine lv_aload_n hx hb dX3_count_9 rfl (lv_at hl 0 rfl) ?_
    refine m_geti F hO hS 18 (by decide) rfl q1415 dX3_count_10 ?_
    refine lv_icmp_ge (tgt := 64) hx hb dX3_count_13 (by decide) (fun c5 => ?_) (fun c5 => ?_)
    · have h := h.1 c5
      refine lv_iload_n hx hb dX3_count_64 rfl (lv_at hl 1 rfl) ?_
      by_cases c6 : x1 = 0
      · have h := h.1 c6
        refine lv_tableIn (off := 47) (tgt := 112) hx hb dX3_count_65 (by rw [c6]; decide) (by rw [c6]; decide) (by rw [c6]; rfl) (by decide) ?_
        refine lv_aload_n hx hb dX3_count_112 rfl (lv_at hl 0 rfl) ?_
        refine m_geti F hO hS 1 (by decide) rfl q1398 dX3_count_113 ?_
        exact gw_iret F hS h dX3_count_116
      have h := h.2
      by_cases c7 : x1 = 1
      · have h := h.1 c7
        refine lv_tableIn (off := 52) (tgt := 117) hx hb dX3_count_65 (by rw [c7]; decide) (by rw [c7]; decide) (by rw [c7]; rfl) (by decide) ?_
        refine lv_aload_n hx hb dX3_count_117 rfl (lv_at hl 0 rfl) ?_
        refine m_geti F hO hS 18 (by decide) rfl q1415 dX3_count_118 ?_
        exact gw_iret F hS h dX3_count_121
      have h := h.2
      by_cases c8 : x1 = 2
      · have h := h.1 c8
        refine lv_tableIn (off := 57) (tgt := 122) hx hb dX3_count_65 (by rw [c8]; decide) (by rw [c8]; decide) (by rw [c8]; rfl) (by decide) ?_
        refine lv_iload_n hx hb dX3_count_122 rfl (lv_at hl 2 rfl) ?_
        exact gw_iret F hS h dX3_count_123
      have h := h.2
      by_cases c9 : x1 = 3
      · have h := h.1 c9
        refine lv_tableIn (off := 59) (tgt := 124) hx hb dX3_count_65 (by rw [c9]; decide) (by rw [c9]; decide) (by rw [c9]; rfl) (by decide) ?_
        refine lv_iload_n hx hb dX3_count_124 rfl (lv_at hl 3 rfl) ?_
        exact gw_iret F hS h dX3_count_125
      have h := h.2
      by_cases c10 : x1 = 4
      · have h := h.1 c10
        refine lv_tableIn (off := 61) (tgt := 126) hx hb dX3_count_65 (by rw [c10]; decide) (by rw [c10]; decide) (by rw [c10]; rfl) (by decide) ?_
        refine lv_aload_n hx hb dX3_count_126 rfl (lv_at hl 0 rfl) ?_
        refine m_geti F hO hS 27 (by decide) rfl q1424 dX3_count_127 ?_
        exact gw_iret F hS h dX3_count_130
      have h := h.2
      by_cases c11 : x1 = 5
      · have h := h.1 c11
        refine lv_tableIn (off := 66) (tgt := 131) hx hb dX3_count_65 (by rw [c11]; decide) (by rw [c11]; decide) (by rw [c11]; rfl) (by decide) ?_
        refine lv_aload_n hx hb dX3_count_131 rfl (lv_at hl 0 rfl) ?_
        refine m_geti F hO hS 30 (by decide) rfl q1427 dX3_count_132 ?_
        exact gw_iret F hS h dX3_count_135
      have h := h.2
      by_cases c12 : x1 = 6
      · have h := h.1 c12
        refine lv_tableIn (off := 71) (tgt := 136) hx hb dX3_count_65 (by rw [c12]; decide) (by rw [c12]; decide) (by rw [c12]; rfl) (by decide) ?_
        refine lv_aload_n hx hb dX3_count_136 rfl (lv_at hl 0 rfl) ?_
        refine m_geti F hO hS 33 (by decide) rfl q1430 dX3_count_137 ?_
        exact gw_iret F hS h dX3_count_140
      have h := h.2
      by_cases c13 : x1 = 7
      · have h := h.1 c13
        refine lv_tableIn (off := 76) (tgt := 141) hx hb dX3_count_65 (by rw [c13]; decide) (by rw [c13]; decide) (by rw [c13]; rfl) (by decide) ?_
        refine lv_aload_n hx hb dX3_count_141 rfl (lv_at hl 0 rfl) ?_
        refine m_geti F hO hS 0 (by decide) rfl q1397 dX3_count_142 ?_
        exact gw_iret F hS h dX3_count_145
      have h := h.2
      have h := h c6 c7 c8 c9 c10 c11 c12 c13
      have c6 := lv_neT (a := 0) c6 (by decide)
      have c7 := lv_neT (a := 1) c7 (by decide)
      have c8 := lv_neT (a := 2) c8 (by decide)
      have c9 := lv_neT (a := 3) c9 (by decide)
      have c10 := lv_neT (a := 4) c10 (by decide)
      have c11 := lv_neT (a := 5) c11 (by decide)
      have c12 := lv_neT (a := 6) c12 (by decide)
      have c13 := lv_neT (a := 7) c13 (by decide)
      refine lv_tableOut (tgt := 146) hx hb dX3_count_65 (by omega) (by decide) ?_
      refine lv_iconst (v := (-1)) hx hb dX3_count_146 (by decide) ?_
      exact gw_iret F hS h dX3_count_147
    · have h := h.2 c5
      refine lv_iload_n hx hb dX3_count_16 rfl (lv_at hl 2 rfl) ?_
      refine lv_aload_n hx hb dX3_count_17 rfl (lv_at hl 0 rfl) ?_
      refine m_geta F hO hS 21 (by decide) rfl q1418 dX3_count_18 ?_
      refine lv_iload hx hb dX3_count_21 (lv_at hl 4 rfl) ?_
      obtain ⟨b14, h⟩ := h
      refine m_iald F hS 21 17 rfl rfl b14 dX3_count_23 ?_
      refine lv_sipush (v := 200) hx hb dX3_count_24 (by decide) ?_
      refine gcut (P := ∀ (v16 : Int32) (H : Heap) (locs : List Loc) (ls : Array Slot), v16 = (if (σ 21 x4.toNatClampNeg) = 200 then 1 else 0) → gSt (MWd g) (MA g) s σ H locs → lv_has ls 5 [(0, .ref (mad g 62)), (1, .int x1), (3, .int x3), (4, .int x4)] → W p l e rM_count s m args below meth c H locs 0 0 (MQ below (va_Qi post (gB (MWd g)) (MA g)) args s 0 0 (MA g)) (F0 m 35 ls [.int v16, .int x2])) (fun v16 H locs ls ev16 hS hl => ?_) (fun J17 => ?_)
      · have h := h v16 ev16
        refine lv_iadd hx hb dX3_count_35 ?_
        refine lv_topi (fun x18 ex18 => ?_)
        have h := h x18 ex18
        refine lv_istore_n (lv' := [(2, .int x18), (0, .ref (mad g 62)), (1, .int x1), (3, .int x3), (4, .int x4)]) hx hb dX3_count_36 rfl hl (by decide) rfl (fun ls hl => ?_)
        refine lv_iload_n hx hb dX3_count_37 rfl (lv_at hl 3 rfl) ?_
        refine lv_aload_n hx hb dX3_count_38 rfl (lv_at hl 1 rfl) ?_
        refine m_geta F hO hS 21 (by decide) rfl q1418 dX3_count_39 ?_
        refine lv_iload hx hb dX3_count_42 (lv_at hl 4 rfl) ?_
        obtain ⟨b19, h⟩ := h
        refine m_iald F hS 21 17 rfl rfl b19 dX3_count_44 ?_
        refine lv_sipush (v := 201) hx hb dX3_count_45 (by decide) ?_
        refine gcut (P := ∀ (v21 : Int32) (H : Heap) (locs : List Loc) (ls : Array Slot), v21 = (if (σ 21 x4.toNatClampNeg) = 201 then 1 else 0) → gSt (MWd g) (MA g) s σ H locs → lv_has ls 5 [(0, .ref (mad g 62)), (1, .int x1), (2, .int x18), (4, .int x4)] → W p l e rM_count s m args below meth c H locs 0 0 (MQ below (va_Qi post (gB (MWd g)) (MA g)) args s 0 0 (MA g)) (F0 m 56 ls [.int v21, .int x3])) (fun v21 H locs ls ev21 hS hl => ?_) (fun J22 => ?_)
        · have h := h v21 ev21
          refine lv_iadd hx hb dX3_count_56 ?_
          refine lv_topi (fun x23 ex23 => ?_)
          have h := h x23 ex23
          refine lv_istore_n (lv' := [(3, .int x23), (0, .ref (mad g 62)), (1, .int x1), (2, .int x18), (4, .int x4)]) hx hb dX3_count_57 rfl hl (by decide) rfl (fun ls hl => ?_)
          obtain ⟨x24, ex24⟩ : ∃ y : Int32, y = x4 + 1 := ⟨_, rfl⟩
          have h := h x24 ex24
          refine lv_iinc (v := x24) (lv' := [(4, .int x24), (3, .int x23), (0, .ref (mad g 62)), (1, .int x1), (2, .int x18)]) hx hb dX3_count_58 hl (k := 4) rfl (by rw [ex24]; rfl) (by decide) rfl (fun ls hl => ?_)
          refine lv_goto (tgt := 7) hx hb dX3_count_61 (by decide) ?_
          exact ih σ x1 x18 x23 x24 H locs ls hS (lv_sub hl [2, 3, 4, 1, 0] rfl) h
        · refine lv_icmp_ne (tgt := 55) hx hb dX3_count_48 (by decide) (fun c20 => ?_) (fun c20 => ?_)
          · refine lv_iconst (v := 0) hx hb dX3_count_55 (by decide) ?_
            exact J22 _ H locs ls (by first | with_reducible rfl | ((try rw [if_neg c20]); done)) hS (lv_sub hl [1, 2, 0, 4] rfl)
          · refine lv_iconst (v := 1) hx hb dX3_count_51 (by decide) ?_
            refine lv_goto (tgt := 56) hx hb dX3_count_52 (by decide) ?_
            exact J22 _ H locs ls (by first | with_reducible rfl | ((try rw [if_pos c20]); done)) hS (lv_sub hl [1, 2, 0, 4] rfl)
      · refine lv_icmp_ne (tgt := 34) hx hb dX3_count_27 (by decide) (fun c15 => ?_) (fun c15 => ?_)
        · refine lv_iconst (v := 0) hx hb dX3_count_34 (by decide) ?_
          exact J17 _ H locs ls (by first | with_reducible rfl | ((try rw [if_neg c15]); done)) hS (lv_sub hl [0, 1, 3, 4] rfl)
        · refine lv_iconst (v := 1) hx hb dX3_count_30 (by decide) ?_
          refine lv_goto (tgt := 35) hx hb dX3_count_31 (by decide) ?_
          exact J17 _ H locs ls (by first | with_reducible rfl | ((try rw [if_pos c15]); done)) hS (lv_sub hl [0, 1, 3, 4] rfl)
set_option maxHeartbeats 4000000 in
set_option maxRecDepth 100000 in
theorem kM_count {p : Program} {l : Launch} {e : Env} {s : State} {m : MethodId} {args : Array Value} {below : List Frame} {meth : Method} {c : Code} {g : MG} {post : Int32 → MS → Prop} (F : gFx p s m c meth args cX3_count 5 RX3 (some .int) (mD g) (mcl g) (mty g)) (hO : MOK g) (σ : MS) (a1 : Int32) (H : Heap) (locs : List Loc) (ls : Array Slot) (hS : gSt (MWd g) (MA g) s σ H locs) (hl : lv_has ls 5 [(0, .ref (mad g 62)), (1, .int a1)]) (h : wM_count post σ a1) : W p l e rM_count s m args below meth c H locs 0 0 (MQ below (va_Qi post (gB (MWd g)) (MA g)) args s 0 0 (MA g)) (F0 m 0 ls []) := by
  have hx := F.hx
  have hb := F.hb
  have hts := F.1.2.2.2.2
  have hown := F.1.2.2.2.1
  rw [wM_count] at h
  refine lv_iconst (v := 0) hx hb dX3_count_0 (by decide) ?_
  refine lv_istore_n (lv' := [(2, .int 0), (0, .ref (mad g 62)), (1, .int a1)]) hx hb dX3_count_1 rfl hl (by decide) rfl (fun ls hl => ?_)
  refine lv_iconst (v := 0) hx hb dX3_count_2 (by decide) ?_
  refine lv_istore_n (lv' := [(3, .int 0), (2, .int 0), (0, .ref (mad g 62)), (1, .int a1)]) hx hb dX3_count_3 rfl hl (by decide) rfl (fun ls hl => ?_)
  refine lv_iconst (v := 0) hx hb dX3_count_4 (by decide) ?_
  refine lv_istore (lv' := [(4, .int 0), (3, .int 0), (2, .int 0), (0, .ref (mad g 62)), (1, .int a1)]) hx hb dX3_count_5 hl (by decide) rfl (fun ls hl => ?_)
  obtain ⟨n25, h⟩ := h
  exact (kM_count_L7 F hO n25) σ a1 0 0 0 H locs ls hS (lv_sub hl [3, 4, 2, 1, 0] rfl) h
set_option maxHeartbeats 4000000 in
set_option maxRecDepth 100000 in
theorem tM_count (l : Launch) (g : MG) (hO : MOK g) (σ : MS) (a1 : Int32) (post : Int32 → MS → Prop) (h : wM_count post σ a1) : Met l yX3_count (ws_ yX3_count cX3_count 5 (some .int)) rM_count (va_Pc [.ref (mad g 62), .int a1] (gPre (MWd g) (mD g) (mcl g) (mty g) σ)) (va_Qi post (gB (MWd g)) (MA g)) 0 0 (MA g) := by
  refine Met.ofW (cc := cX3_count) (maxL := 5) (ret := (some .int)) (by decide) rfl ?_
  intro p e s m args below meth c s₁ B hml hv
  obtain ⟨rfl, hW, hK⟩ := hv
  have hts := atoms_spec (ws := (ws_ yX3_count cX3_count 5 (some .int))) B.pre
  have hts : ∀ w ∈ lw_all, w.before _ s = true := fun w h => hts w (List.mem_cons_of_mem _ h)
  have hl := lv_entry ([.ref (mad g 62), .int a1]) (n := 5) (Nat.le_of_ble_eq_true rfl)
  rw [lg_entry_eq]
  generalize (lg_sl ([.ref (mad g 62), .int a1]) ++ List.replicate (5 - (lg_sl ([.ref (mad g 62), .int a1])).length) Slot.unset).toArray = ls at hl ⊢
  exact kM_count ⟨⟨B.exec, B.bytes, hml, findClass_of_methodNamed B.named, hts⟩, hK, B.returns, B.notSynchronized⟩ hO σ a1 s.heap [] ls ⟨hW, va_S.rf⟩ hl h
def wM_isLane (post : Int32 → MS → Prop) (σ : MS) (a0 : Int32) : Prop := wM_in (fun r2 s1 => post r2 s1) σ a0.toInt64 0 2
abbrev rM_isLane : Room := { frames := 1, cells := 0, slots := 0, locals := 25 }
set_option maxHeartbeats 4000000 in
set_option maxRecDepth 100000 in
theorem kM_isLane {p : Program} {l : Launch} {e : Env} {s : State} {m : MethodId} {args : Array Value} {below : List Frame} {meth : Method} {c : Code} {g : MG} {post : Int32 → MS → Prop} (F : gFx p s m c meth args cX3_isLane 1 RX3 (some .boolean) (mD g) (mcl g) (mty g)) (hO : MOK g) (σ : MS) (a0 : Int32) (H : Heap) (locs : List Loc) (ls : Array Slot) (hS : gSt (MWd g) (MA g) s σ H locs) (hl : lv_has ls 1 [(0, .int a0)]) (h : wM_isLane post σ a0) : W p l e rM_isLane s m args below meth c H locs 0 0 (MQ below (va_Qi (zpost post) (gB (MWd g)) (MA g)) args s 0 0 (MA g)) (F0 m 0 ls []) := by
  have hx := F.hx
  have hb := F.hb
  have hts := F.1.2.2.2.2
  have hown := F.1.2.2.2.1
  rw [wM_isLane] at h
  refine lv_iload_n hx hb dX3_isLane_0 rfl (lv_at hl 0 rfl) ?_
  refine lv_i2l hx hb dX3_isLane_1 rfl ?_
  refine lv_lconst (v := 0) hx hb dX3_isLane_2 (by decide) ?_
  refine lv_ldc2 (v := 2) hx hb hown (hts _ q1885) dX3_isLane_3 ?_
  refine gw_callSi (As := [.long a0.toInt64, .long 0, .long 2]) (rest := []) F hS (tM_in l g hO σ a0.toInt64 0 2 _ h) (va_cwS 3 hts (lw_S q1593 q1594 q90 q1595) rfl rfl rfl (by decide +kernel) ⟨Nat.le_of_ble_eq_true rfl, Nat.le_of_ble_eq_true rfl⟩) rfl hl.1 rfl (Nat.le_of_ble_eq_true rfl) dX3_isLane_6 ⟨Nat.le_refl 0, Nat.le_refl 0⟩ (fun r2 s1 H locs h hS => ?_)
  obtain ⟨zr2, h⟩ := h
  exact gw_zret F hS zr2 h dX3_isLane_9
set_option maxHeartbeats 4000000 in
set_option maxRecDepth 100000 in
theorem tM_isLane (l : Launch) (g : MG) (hO : MOK g) (σ : MS) (a0 : Int32) (post : Int32 → MS → Prop) (h : wM_isLane post σ a0) : Met l yX3_isLane (ws_ yX3_isLane cX3_isLane 1 (some .boolean)) rM_isLane (va_Pc [.int a0] (gPre (MWd g) (mD g) (mcl g) (mty g) σ)) (va_Qi (zpost post) (gB (MWd g)) (MA g)) 0 0 (MA g) := by
  refine Met.ofW (cc := cX3_isLane) (maxL := 1) (ret := (some .boolean)) (by decide) rfl ?_
  intro p e s m args below meth c s₁ B hml hv
  obtain ⟨rfl, hW, hK⟩ := hv
  have hts := atoms_spec (ws := (ws_ yX3_isLane cX3_isLane 1 (some .boolean))) B.pre
  have hts : ∀ w ∈ lw_all, w.before _ s = true := fun w h => hts w (List.mem_cons_of_mem _ h)
  have hl := lv_entry ([.int a0]) (n := 1) (Nat.le_of_ble_eq_true rfl)
  rw [lg_entry_eq]
  generalize (lg_sl ([.int a0]) ++ List.replicate (1 - (lg_sl ([.int a0])).length) Slot.unset).toArray = ls at hl ⊢
  exact kM_isLane ⟨⟨B.exec, B.bytes, hml, findClass_of_methodNamed B.named, hts⟩, hK, B.returns, B.notSynchronized⟩ hO σ a0 s.heap [] ls ⟨hW, va_S.rf⟩ hl h
def wM_sheet_L46 (post : Int32 → MS → Prop) : Nat → MS → Int32 → Int32 → Int32 → Prop
  | 0, _, _, _, _ => False
  | n + 1, σ, x13, x14, x15 => (50 ≤ x15 → post x14 σ) ∧ (¬ (50 ≤ x15) → (vp_in (((50 : Int32) * x13) + x15) 200 ∧ ∀ s17 : MS, s17 = up2 σ 60 (((50 : Int32) * x13) + x15).toNatClampNeg 0 → ∀ x19 : Int32, x19 = x15 + 1 → wM_sheet_L46 post n s17 x13 x14 x19))
def wM_sheet (post : Int32 → MS → Prop) (σ : MS) (a1 : Int32) (a2 : Int32) (a3 : Int32) : Prop := wM_isSheet (fun r2 s1 => (r2 = 0 → post (-1) s1) ∧ (¬ (r2 = 0) → wM_isLane (fun r5 s4 => (r5 = 0 → post (-1) s4) ∧ (¬ (r5 = 0) → (a3 ≤ 50 → (0 ≤ a3 → (vp_in a1 4 ∧ ∀ s9 : MS, s9 = up2 s4 58 a1.toNatClampNeg a2 → vp_in a1 4 ∧ ∀ s11 : MS, s11 = up2 s9 59 a1.toNatClampNeg a3 → ∃ n20, wM_sheet_L46 post n20 s11 a1 a3 0)) ∧ (¬ (0 ≤ a3) → post (-14) s4)) ∧ (¬ (a3 ≤ 50) → post (-1) s4))) s1 a2)) σ a1
abbrev rM_sheet : Room := { frames := 2, cells := 0, slots := 0, locals := 45 }
set_option maxHeartbeats 4000000 in
set_option maxRecDepth 100000 in
theorem kM_sheet_L46 {p : Program} {l : Launch} {e : Env} {s : State} {m : MethodId} {args : Array Value} {below : List Frame} {meth : Method} {c : Code} {g : MG} {post : Int32 → MS → Prop} (F : gFx p s m c meth args cX3_sheet 5 RX3 (some .int) (mD g) (mcl g) (mty g)) (hO : MOK g) : ∀ (n : Nat) (σ : MS) (x13 : Int32) (x14 : Int32) (x15 : Int32) (H : Heap) (locs : List Loc) (ls : Array Slot), gSt (MWd g) (MA g) s σ H locs → lv_has ls 5 [(0, .ref (mad g 62)), (1, .int x13), (3, .int x14), (4, .int x15)] → wM_sheet_L46 post n σ x13 x14 x15 → W p l e rM_sheet s m args below meth c H locs 0 0 (MQ below (va_Qi post (gB (MWd g)) (MA g)) args s 0 0 (MA g)) (F0 m 46 ls []) := by
  have hx := F.hx
  have hb := F.hb
  have hts := F.1.2.2.2.2
  have hown := F.1.2.2.2.1
  intro n
  induction n with
  | zero =>
    intro σ x13 x14 x15 H locs ls hS hl h
    exact False.elim h
  | succ n ih =>
    intro σ x13 x14 x15 H locs ls hS hl h
    rw [wM_sheet_L46] at h
    refine lv_iload hx hb dX3_sheet_46 (lv_at hl 3 rfl) ?_
    refine lv_bipush (v := 50) hx hb dX3_sheet_48 (by decide) ?_
    refine lv_icmp_ge (tgt := 72) hx hb dX3_sheet_50 (by decide) (fun c16 => ?_) (fun c16 => ?_)
    · have h := h.1 c16
      refine lv_iload_n hx hb dX3_sheet_72 rfl (lv_at hl 2 rfl) ?_
      exact gw_iret F hS h dX3_sheet_73
    · have h := h.2 c16
      refine lv_aload_n hx hb dX3_sheet_53 rfl (lv_at hl 0 rfl) ?_
      refine m_geta F hO hS 60 (by decide) rfl q1457 dX3_sheet_54 ?_
      refine lv_bipush (v := 50) hx hb dX3_sheet_57 (by decide) ?_
      refine lv_iload_n hx hb dX3_sheet_59 rfl (lv_at hl 1 rfl) ?_
      refine lv_imul hx hb dX3_sheet_60 ?_
      refine lv_iload hx hb dX3_sheet_61 (lv_at hl 3 rfl) ?_
      refine lv_iadd hx hb dX3_sheet_63 ?_
      refine lv_iconst (v := 0) hx hb dX3_sheet_64 (by decide) ?_
      obtain ⟨b18, h⟩ := h
      refine m_iast F hO hS 60 47 rfl rfl b18 dX3_sheet_65 (fun s17 es17 H locs hS => ?_)
      have h := h s17 es17
      obtain ⟨x19, ex19⟩ : ∃ y : Int32, y = x15 + 1 := ⟨_, rfl⟩
      have h := h x19 ex19
      refine lv_iinc (v := x19) (lv' := [(4, .int x19), (0, .ref (mad g 62)), (1, .int x13), (3, .int x14)]) hx hb dX3_sheet_66 hl (k := 3) rfl (by rw [ex19]; rfl) (by decide) rfl (fun ls hl => ?_)
      refine lv_goto (tgt := 46) hx hb dX3_sheet_69 (by decide) ?_
      exact ih s17 x13 x14 x19 H locs ls hS (lv_sub hl [1, 2, 3, 0] rfl) h
set_option maxHeartbeats 4000000 in
set_option maxRecDepth 100000 in
theorem kM_sheet {p : Program} {l : Launch} {e : Env} {s : State} {m : MethodId} {args : Array Value} {below : List Frame} {meth : Method} {c : Code} {g : MG} {post : Int32 → MS → Prop} (F : gFx p s m c meth args cX3_sheet 5 RX3 (some .int) (mD g) (mcl g) (mty g)) (hO : MOK g) (σ : MS) (a1 : Int32) (a2 : Int32) (a3 : Int32) (H : Heap) (locs : List Loc) (ls : Array Slot) (hS : gSt (MWd g) (MA g) s σ H locs) (hl : lv_has ls 5 [(0, .ref (mad g 62)), (1, .int a1), (2, .int a2), (3, .int a3)]) (h : wM_sheet post σ a1 a2 a3) : W p l e rM_sheet s m args below meth c H locs 0 0 (MQ below (va_Qi post (gB (MWd g)) (MA g)) args s 0 0 (MA g)) (F0 m 0 ls []) := by
  have hx := F.hx
  have hb := F.hb
  have hts := F.1.2.2.2.2
  have hown := F.1.2.2.2.1
  rw [wM_sheet] at h
  refine lv_iload_n hx hb dX3_sheet_0 rfl (lv_at hl 1 rfl) ?_
  refine gw_callSi (As := [.int a1]) (rest := []) F hS (tM_isSheet l g hO σ a1 _ h) (va_cwS 1 hts (lw_S q1659 q1660 q90 q1661) rfl rfl rfl (by decide +kernel) ⟨Nat.le_of_ble_eq_true rfl, Nat.le_of_ble_eq_true rfl⟩) rfl hl.1 rfl (Nat.le_of_ble_eq_true rfl) dX3_sheet_1 ⟨Nat.le_refl 0, Nat.le_refl 0⟩ (fun r2 s1 H locs h hS => ?_)
  obtain ⟨zr2, h⟩ := h
  refine lv_if_eq (tgt := 20) hx hb dX3_sheet_4 (by decide) (fun c3 => ?_) (fun c3 => ?_)
  · have h := h.1 c3
    refine lv_iconst (v := (-1)) hx hb dX3_sheet_20 (by decide) ?_
    exact gw_iret F hS h dX3_sheet_21
  · have h := h.2 c3
    refine lv_iload_n hx hb dX3_sheet_7 rfl (lv_at hl 2 rfl) ?_
    refine gw_callSi (As := [.int a2]) (rest := []) F hS (tM_isLane l g hO s1 a2 _ h) (va_cwS 1 hts (lw_S q1971 q1972 q90 q1973) rfl rfl rfl (by decide +kernel) ⟨Nat.le_of_ble_eq_true rfl, Nat.le_of_ble_eq_true rfl⟩) rfl hl.1 rfl (Nat.le_of_ble_eq_true rfl) dX3_sheet_8 ⟨Nat.le_refl 0, Nat.le_refl 0⟩ (fun r5 s4 H locs h hS => ?_)
    obtain ⟨zr5, h⟩ := h
    refine lv_if_eq (tgt := 20) hx hb dX3_sheet_11 (by decide) (fun c6 => ?_) (fun c6 => ?_)
    · have h := h.1 c6
      refine lv_iconst (v := (-1)) hx hb dX3_sheet_20 (by decide) ?_
      exact gw_iret F hS h dX3_sheet_21
    · have h := h.2 c6
      refine lv_iload_n hx hb dX3_sheet_14 rfl (lv_at hl 3 rfl) ?_
      refine lv_bipush (v := 50) hx hb dX3_sheet_15 (by decide) ?_
      refine lv_icmp_le (tgt := 22) hx hb dX3_sheet_17 (by decide) (fun c7 => ?_) (fun c7 => ?_)
      · have h := h.1 c7
        refine lv_iload_n hx hb dX3_sheet_22 rfl (lv_at hl 3 rfl) ?_
        refine lv_if_ge (tgt := 29) hx hb dX3_sheet_23 (by decide) (fun c8 => ?_) (fun c8 => ?_)
        · have h := h.1 c8
          refine lv_aload_n hx hb dX3_sheet_29 rfl (lv_at hl 0 rfl) ?_
          refine m_geta F hO hS 58 (by decide) rfl q1455 dX3_sheet_30 ?_
          refine lv_iload_n hx hb dX3_sheet_33 rfl (lv_at hl 1 rfl) ?_
          refine lv_iload_n hx hb dX3_sheet_34 rfl (lv_at hl 2 rfl) ?_
          obtain ⟨b10, h⟩ := h
          refine m_iast F hO hS 58 45 rfl rfl b10 dX3_sheet_35 (fun s9 es9 H locs hS => ?_)
          have h := h s9 es9
          refine lv_aload_n hx hb dX3_sheet_36 rfl (lv_at hl 0 rfl) ?_
          refine m_geta F hO hS 59 (by decide) rfl q1456 dX3_sheet_37 ?_
          refine lv_iload_n hx hb dX3_sheet_40 rfl (lv_at hl 1 rfl) ?_
          refine lv_iload_n hx hb dX3_sheet_41 rfl (lv_at hl 3 rfl) ?_
          obtain ⟨b12, h⟩ := h
          refine m_iast F hO hS 59 46 rfl rfl b12 dX3_sheet_42 (fun s11 es11 H locs hS => ?_)
          have h := h s11 es11
          refine lv_iconst (v := 0) hx hb dX3_sheet_43 (by decide) ?_
          refine lv_istore (lv' := [(4, .int 0), (0, .ref (mad g 62)), (1, .int a1), (2, .int a2), (3, .int a3)]) hx hb dX3_sheet_44 hl (by decide) rfl (fun ls hl => ?_)
          obtain ⟨n20, h⟩ := h
          exact (kM_sheet_L46 F hO n20) s11 a1 a3 0 H locs ls hS (lv_sub hl [1, 2, 4, 0] rfl) h
        · have h := h.2 c8
          refine lv_bipush (v := (-14)) hx hb dX3_sheet_26 (by decide) ?_
          exact gw_iret F hS h dX3_sheet_28
      · have h := h.2 c7
        refine lv_iconst (v := (-1)) hx hb dX3_sheet_20 (by decide) ?_
        exact gw_iret F hS h dX3_sheet_21
set_option maxHeartbeats 4000000 in
set_option maxRecDepth 100000 in
theorem tM_sheet (l : Launch) (g : MG) (hO : MOK g) (σ : MS) (a1 : Int32) (a2 : Int32) (a3 : Int32) (post : Int32 → MS → Prop) (h : wM_sheet post σ a1 a2 a3) : Met l yX3_sheet (ws_ yX3_sheet cX3_sheet 5 (some .int)) rM_sheet (va_Pc [.ref (mad g 62), .int a1, .int a2, .int a3] (gPre (MWd g) (mD g) (mcl g) (mty g) σ)) (va_Qi post (gB (MWd g)) (MA g)) 0 0 (MA g) := by
  refine Met.ofW (cc := cX3_sheet) (maxL := 5) (ret := (some .int)) (by decide) rfl ?_
  intro p e s m args below meth c s₁ B hml hv
  obtain ⟨rfl, hW, hK⟩ := hv
  have hts := atoms_spec (ws := (ws_ yX3_sheet cX3_sheet 5 (some .int))) B.pre
  have hts : ∀ w ∈ lw_all, w.before _ s = true := fun w h => hts w (List.mem_cons_of_mem _ h)
  have hl := lv_entry ([.ref (mad g 62), .int a1, .int a2, .int a3]) (n := 5) (Nat.le_of_ble_eq_true rfl)
  rw [lg_entry_eq]
  generalize (lg_sl ([.ref (mad g 62), .int a1, .int a2, .int a3]) ++ List.replicate (5 - (lg_sl ([.ref (mad g 62), .int a1, .int a2, .int a3])).length) Slot.unset).toArray = ls at hl ⊢
  exact kM_sheet ⟨⟨B.exec, B.bytes, hml, findClass_of_methodNamed B.named, hts⟩, hK, B.returns, B.notSynchronized⟩ hO σ a1 a2 a3 s.heap [] ls ⟨hW, va_S.rf⟩ hl h
def wM_drop (post : Int32 → MS → Prop) (σ : MS) (a1 : Int32) : Prop := wM_isSheet (fun r2 s1 => (¬ (r2 = 0) → (vp_in a1 4 ∧ (0 ≤ (s1 58 a1.toNatClampNeg) → (vp_in a1 4 ∧ ∀ s6 : MS, s6 = up2 s1 58 a1.toNatClampNeg (-1) → vp_in a1 4 ∧ post (s6 59 a1.toNatClampNeg) s6)) ∧ (¬ (0 ≤ (s1 58 a1.toNatClampNeg)) → post (-11) s1))) ∧ (r2 = 0 → post (-1) s1)) σ a1
abbrev rM_drop : Room := { frames := 2, cells := 0, slots := 0, locals := 45 }
set_option maxHeartbeats 4000000 in
set_option maxRecDepth 100000 in
theorem kM_drop {p : Program} {l : Launch} {e : Env} {s : State} {m : MethodId} {args : Array Value} {below : List Frame} {meth : Method} {c : Code} {g : MG} {post : Int32 → MS → Prop} (F : gFx p s m c meth args cX3_drop 2 RX3 (some .int) (mD g) (mcl g) (mty g)) (hO : MOK g) (σ : MS) (a1 : Int32) (H : Heap) (locs : List Loc) (ls : Array Slot) (hS : gSt (MWd g) (MA g) s σ H locs) (hl : lv_has ls 2 [(0, .ref (mad g 62)), (1, .int a1)]) (h : wM_drop post σ a1) : W p l e rM_drop s m args below meth c H locs 0 0 (MQ below (va_Qi post (gB (MWd g)) (MA g)) args s 0 0 (MA g)) (F0 m 0 ls []) := by
  have hx := F.hx
  have hb := F.hb
  have hts := F.1.2.2.2.2
  have hown := F.1.2.2.2.1
  rw [wM_drop] at h
  refine lv_iload_n hx hb dX3_drop_0 rfl (lv_at hl 1 rfl) ?_
  refine gw_callSi (As := [.int a1]) (rest := []) F hS (tM_isSheet l g hO σ a1 _ h) (va_cwS 1 hts (lw_S q1659 q1660 q90 q1661) rfl rfl rfl (by decide +kernel) ⟨Nat.le_of_ble_eq_true rfl, Nat.le_of_ble_eq_true rfl⟩) rfl hl.1 rfl (Nat.le_of_ble_eq_true rfl) dX3_drop_1 ⟨Nat.le_refl 0, Nat.le_refl 0⟩ (fun r2 s1 H locs h hS => ?_)
  obtain ⟨zr2, h⟩ := h
  refine lv_if_ne (tgt := 9) hx hb dX3_drop_4 (by decide) (fun c3 => ?_) (fun c3 => ?_)
  · have h := h.1 c3
    refine lv_aload_n hx hb dX3_drop_9 rfl (lv_at hl 0 rfl) ?_
    refine m_geta F hO hS 58 (by decide) rfl q1455 dX3_drop_10 ?_
    refine lv_iload_n hx hb dX3_drop_13 rfl (lv_at hl 1 rfl) ?_
    obtain ⟨b4, h⟩ := h
    refine m_iald F hS 58 45 rfl rfl b4 dX3_drop_14 ?_
    refine lv_if_ge (tgt := 21) hx hb dX3_drop_15 (by decide) (fun c5 => ?_) (fun c5 => ?_)
    · have h := h.1 c5
      refine lv_aload_n hx hb dX3_drop_21 rfl (lv_at hl 0 rfl) ?_
      refine m_geta F hO hS 58 (by decide) rfl q1455 dX3_drop_22 ?_
      refine lv_iload_n hx hb dX3_drop_25 rfl (lv_at hl 1 rfl) ?_
      refine lv_iconst (v := (-1)) hx hb dX3_drop_26 (by decide) ?_
      obtain ⟨b7, h⟩ := h
      refine m_iast F hO hS 58 45 rfl rfl b7 dX3_drop_27 (fun s6 es6 H locs hS => ?_)
      have h := h s6 es6
      refine lv_aload_n hx hb dX3_drop_28 rfl (lv_at hl 0 rfl) ?_
      refine m_geta F hO hS 59 (by decide) rfl q1456 dX3_drop_29 ?_
      refine lv_iload_n hx hb dX3_drop_32 rfl (lv_at hl 1 rfl) ?_
      obtain ⟨b8, h⟩ := h
      refine m_iald F hS 59 46 rfl rfl b8 dX3_drop_33 ?_
      exact gw_iret F hS h dX3_drop_34
    · have h := h.2 c5
      refine lv_bipush (v := (-11)) hx hb dX3_drop_18 (by decide) ?_
      exact gw_iret F hS h dX3_drop_20
  · have h := h.2 c3
    refine lv_iconst (v := (-1)) hx hb dX3_drop_7 (by decide) ?_
    exact gw_iret F hS h dX3_drop_8
set_option maxHeartbeats 4000000 in
set_option maxRecDepth 100000 in
theorem tM_drop (l : Launch) (g : MG) (hO : MOK g) (σ : MS) (a1 : Int32) (post : Int32 → MS → Prop) (h : wM_drop post σ a1) : Met l yX3_drop (ws_ yX3_drop cX3_drop 2 (some .int)) rM_drop (va_Pc [.ref (mad g 62), .int a1] (gPre (MWd g) (mD g) (mcl g) (mty g) σ)) (va_Qi post (gB (MWd g)) (MA g)) 0 0 (MA g) := by
  refine Met.ofW (cc := cX3_drop) (maxL := 2) (ret := (some .int)) (by decide) rfl ?_
  intro p e s m args below meth c s₁ B hml hv
  obtain ⟨rfl, hW, hK⟩ := hv
  have hts := atoms_spec (ws := (ws_ yX3_drop cX3_drop 2 (some .int))) B.pre
  have hts : ∀ w ∈ lw_all, w.before _ s = true := fun w h => hts w (List.mem_cons_of_mem _ h)
  have hl := lv_entry ([.ref (mad g 62), .int a1]) (n := 2) (Nat.le_of_ble_eq_true rfl)
  rw [lg_entry_eq]
  generalize (lg_sl ([.ref (mad g 62), .int a1]) ++ List.replicate (2 - (lg_sl ([.ref (mad g 62), .int a1])).length) Slot.unset).toArray = ls at hl ⊢
  exact kM_drop ⟨⟨B.exec, B.bytes, hml, findClass_of_methodNamed B.named, hts⟩, hK, B.returns, B.notSynchronized⟩ hO σ a1 s.heap [] ls ⟨hW, va_S.rf⟩ hl h
def wM_item (post : Int32 → MS → Prop) (σ : MS) (a1 : Int32) (a2 : Int32) (a3 : Int32) (a4 : Int32) : Prop := wM_isSheet (fun r2 s1 => (r2 = 0 → post (-1) s1) ∧ (¬ (r2 = 0) → wM_isLane (fun r5 s4 => (¬ (r5 = 0) → wM_finds (fun r8 s7 => (0 ≤ r8 → (∀ v13 : Int32, v13 = (if a2 = 0 then if a4 = 0 then 0 else 1 else if a2 = 1 then a4.toInt16.toInt32 else a4) → (vp_in (((50 : Int32) * a1) + a3) 200 ∧ ∀ s15 : MS, s15 = up2 s7 60 (((50 : Int32) * a1) + a3).toNatClampNeg v13 → post 1 s15))) ∧ (¬ (0 ≤ r8) → post r8 s7)) s4 a1 a2 a3 1) ∧ (r5 = 0 → post (-1) s4)) s1 a2)) σ a1
abbrev rM_item : Room := { frames := 2, cells := 0, slots := 0, locals := 45 }
set_option maxHeartbeats 4000000 in
set_option maxRecDepth 100000 in
theorem kM_item {p : Program} {l : Launch} {e : Env} {s : State} {m : MethodId} {args : Array Value} {below : List Frame} {meth : Method} {c : Code} {g : MG} {post : Int32 → MS → Prop} (F : gFx p s m c meth args cX3_item 6 RX3 (some .int) (mD g) (mcl g) (mty g)) (hO : MOK g) (σ : MS) (a1 : Int32) (a2 : Int32) (a3 : Int32) (a4 : Int32) (H : Heap) (locs : List Loc) (ls : Array Slot) (hS : gSt (MWd g) (MA g) s σ H locs) (hl : lv_has ls 6 [(0, .ref (mad g 62)), (1, .int a1), (2, .int a2), (3, .int a3), (4, .int a4)]) (h : wM_item post σ a1 a2 a3 a4) : W p l e rM_item s m args below meth c H locs 0 0 (MQ below (va_Qi post (gB (MWd g)) (MA g)) args s 0 0 (MA g)) (F0 m 0 ls []) := by
  have hx := F.hx
  have hb := F.hb
  have hts := F.1.2.2.2.2
  have hown := F.1.2.2.2.1
  rw [wM_item] at h
  refine lv_iload_n hx hb dX3_item_0 rfl (lv_at hl 1 rfl) ?_
  refine gw_callSi (As := [.int a1]) (rest := []) F hS (tM_isSheet l g hO σ a1 _ h) (va_cwS 1 hts (lw_S q1659 q1660 q90 q1661) rfl rfl rfl (by decide +kernel) ⟨Nat.le_of_ble_eq_true rfl, Nat.le_of_ble_eq_true rfl⟩) rfl hl.1 rfl (Nat.le_of_ble_eq_true rfl) dX3_item_1 ⟨Nat.le_refl 0, Nat.le_refl 0⟩ (fun r2 s1 H locs h hS => ?_)
  obtain ⟨zr2, h⟩ := h
  refine lv_if_eq (tgt := 14) hx hb dX3_item_4 (by decide) (fun c3 => ?_) (fun c3 => ?_)
  · have h := h.1 c3
    refine lv_iconst (v := (-1)) hx hb dX3_item_14 (by decide) ?_
    exact gw_iret F hS h dX3_item_15
  · have h := h.2 c3
    refine lv_iload_n hx hb dX3_item_7 rfl (lv_at hl 2 rfl) ?_
    refine gw_callSi (As := [.int a2]) (rest := []) F hS (tM_isLane l g hO s1 a2 _ h) (va_cwS 1 hts (lw_S q1971 q1972 q90 q1973) rfl rfl rfl (by decide +kernel) ⟨Nat.le_of_ble_eq_true rfl, Nat.le_of_ble_eq_true rfl⟩) rfl hl.1 rfl (Nat.le_of_ble_eq_true rfl) dX3_item_8 ⟨Nat.le_refl 0, Nat.le_refl 0⟩ (fun r5 s4 H locs h hS => ?_)
    obtain ⟨zr5, h⟩ := h
    refine lv_if_ne (tgt := 16) hx hb dX3_item_11 (by decide) (fun c6 => ?_) (fun c6 => ?_)
    · have h := h.1 c6
      refine lv_aload_n hx hb dX3_item_16 rfl (lv_at hl 0 rfl) ?_
      refine lv_iload_n hx hb dX3_item_17 rfl (lv_at hl 1 rfl) ?_
      refine lv_iload_n hx hb dX3_item_18 rfl (lv_at hl 2 rfl) ?_
      refine lv_iload_n hx hb dX3_item_19 rfl (lv_at hl 3 rfl) ?_
      refine lv_iconst (v := 1) hx hb dX3_item_20 (by decide) ?_
      refine gw_callVi (As := [.int a1, .int a2, .int a3, .int 1]) (rest := []) F hS (tM_finds l g hO s4 a1 a2 a3 1 _ h) (cwV 4 hts (lw_V q1662 q1664 qs44 q90 q1665) rfl rfl rfl (by decide +kernel) ⟨Nat.le_of_ble_eq_true rfl, Nat.le_of_ble_eq_true rfl⟩) (m_rec F hO hS) rfl hl.1 rfl (Nat.le_of_ble_eq_true rfl) dX3_item_21 ⟨Nat.le_refl 0, Nat.le_refl 0⟩ (fun r8 s7 H locs h hS => ?_)
      refine lv_istore (lv' := [(5, .int r8), (0, .ref (mad g 62)), (1, .int a1), (2, .int a2), (3, .int a3), (4, .int a4)]) hx hb dX3_item_24 hl (by decide) rfl (fun ls hl => ?_)
      refine lv_iload hx hb dX3_item_26 (lv_at hl 0 rfl) ?_
      refine lv_if_ge (tgt := 34) hx hb dX3_item_28 (by decide) (fun c9 => ?_) (fun c9 => ?_)
      · have h := h.1 c9
        refine lv_aload_n hx hb dX3_item_34 rfl (lv_at hl 1 rfl) ?_
        refine m_geta F hO hS 60 (by decide) rfl q1457 dX3_item_35 ?_
        refine lv_bipush (v := 50) hx hb dX3_item_38 (by decide) ?_
        refine lv_iload_n hx hb dX3_item_40 rfl (lv_at hl 2 rfl) ?_
        refine lv_imul hx hb dX3_item_41 ?_
        refine lv_iload_n hx hb dX3_item_42 rfl (lv_at hl 4 rfl) ?_
        refine lv_iadd hx hb dX3_item_43 ?_
        refine lv_iload_n hx hb dX3_item_44 rfl (lv_at hl 3 rfl) ?_
        refine gcut (P := ∀ (v13 : Int32) (H : Heap) (locs : List Loc) (ls : Array Slot), v13 = (if a2 = 0 then if a4 = 0 then 0 else 1 else if a2 = 1 then a4.toInt16.toInt32 else a4) → gSt (MWd g) (MA g) s s7 H locs → lv_has ls 6 [] → W p l e rM_item s m args below meth c H locs 0 0 (MQ below (va_Qi post (gB (MWd g)) (MA g)) args s 0 0 (MA g)) (F0 m 74 ls [.int v13, .int (((50 : Int32) * a1) + a3), .ref (mad g 60)])) (fun v13 H locs ls ev13 hS hl => ?_) (fun J14 => ?_)
        · have h := h v13 ev13
          obtain ⟨b16, h⟩ := h
          refine m_iast F hO hS 60 47 rfl rfl b16 dX3_item_74 (fun s15 es15 H locs hS => ?_)
          have h := h s15 es15
          refine lv_iconst (v := 1) hx hb dX3_item_75 (by decide) ?_
          exact gw_iret F hS h dX3_item_76
        · refine lv_if_ne (tgt := 61) hx hb dX3_item_45 (by decide) (fun c10 => ?_) (fun c10 => ?_)
          · refine lv_iload_n hx hb dX3_item_61 rfl (lv_at hl 3 rfl) ?_
            refine lv_iconst (v := 1) hx hb dX3_item_62 (by decide) ?_
            refine lv_icmp_ne (tgt := 72) hx hb dX3_item_63 (by decide) (fun c11 => ?_) (fun c11 => ?_)
            · refine lv_iload hx hb dX3_item_72 (lv_at hl 5 rfl) ?_
              exact J14 _ H locs ls (by first | with_reducible rfl | ((try rw [if_neg c10]); (try rw [if_neg c11]); done)) hS (lv_sub hl [] rfl)
            · refine lv_iload hx hb dX3_item_66 (lv_at hl 5 rfl) ?_
              refine lv_i2s hx hb dX3_item_68 rfl ?_
              refine lv_goto (tgt := 74) hx hb dX3_item_69 (by decide) ?_
              exact J14 _ H locs ls (by first | with_reducible rfl | ((try rw [if_neg c10]); (try rw [if_pos c11]); done)) hS (lv_sub hl [] rfl)
          · refine lv_iload hx hb dX3_item_48 (lv_at hl 5 rfl) ?_
            refine lv_if_eq (tgt := 57) hx hb dX3_item_50 (by decide) (fun c12 => ?_) (fun c12 => ?_)
            · refine lv_iconst (v := 0) hx hb dX3_item_57 (by decide) ?_
              refine lv_goto (tgt := 74) hx hb dX3_item_58 (by decide) ?_
              exact J14 _ H locs ls (by first | with_reducible rfl | ((try rw [if_pos c10]); (try rw [if_pos c12]); done)) hS (lv_sub hl [] rfl)
            · refine lv_iconst (v := 1) hx hb dX3_item_53 (by decide) ?_
              refine lv_goto (tgt := 74) hx hb dX3_item_54 (by decide) ?_
              exact J14 _ H locs ls (by first | with_reducible rfl | ((try rw [if_pos c10]); (try rw [if_neg c12]); done)) hS (lv_sub hl [] rfl)
      · have h := h.2 c9
        refine lv_iload hx hb dX3_item_31 (lv_at hl 0 rfl) ?_
        exact gw_iret F hS h dX3_item_33
    · have h := h.2 c6
      refine lv_iconst (v := (-1)) hx hb dX3_item_14 (by decide) ?_
      exact gw_iret F hS h dX3_item_15
set_option maxHeartbeats 4000000 in
set_option maxRecDepth 100000 in
theorem tM_item (l : Launch) (g : MG) (hO : MOK g) (σ : MS) (a1 : Int32) (a2 : Int32) (a3 : Int32) (a4 : Int32) (post : Int32 → MS → Prop) (h : wM_item post σ a1 a2 a3 a4) : Met l yX3_item (ws_ yX3_item cX3_item 6 (some .int)) rM_item (va_Pc [.ref (mad g 62), .int a1, .int a2, .int a3, .int a4] (gPre (MWd g) (mD g) (mcl g) (mty g) σ)) (va_Qi post (gB (MWd g)) (MA g)) 0 0 (MA g) := by
  refine Met.ofW (cc := cX3_item) (maxL := 6) (ret := (some .int)) (by decide) rfl ?_
  intro p e s m args below meth c s₁ B hml hv
  obtain ⟨rfl, hW, hK⟩ := hv
  have hts := atoms_spec (ws := (ws_ yX3_item cX3_item 6 (some .int))) B.pre
  have hts : ∀ w ∈ lw_all, w.before _ s = true := fun w h => hts w (List.mem_cons_of_mem _ h)
  have hl := lv_entry ([.ref (mad g 62), .int a1, .int a2, .int a3, .int a4]) (n := 6) (Nat.le_of_ble_eq_true rfl)
  rw [lg_entry_eq]
  generalize (lg_sl ([.ref (mad g 62), .int a1, .int a2, .int a3, .int a4]) ++ List.replicate (6 - (lg_sl ([.ref (mad g 62), .int a1, .int a2, .int a3, .int a4])).length) Slot.unset).toArray = ls at hl ⊢
  exact kM_item ⟨⟨B.exec, B.bytes, hml, findClass_of_methodNamed B.named, hts⟩, hK, B.returns, B.notSynchronized⟩ hO σ a1 a2 a3 a4 s.heap [] ls ⟨hW, va_S.rf⟩ hl h
def wM_copy_L138 (post : Int32 → MS → Prop) : Nat → MS → Int32 → Int32 → Int32 → Int32 → Prop
  | 0, _, _, _, _, _ => False
  | n + 1, σ, x30, x31, x32, x33 => (x32 ≤ x33 → post x32 σ) ∧ (¬ (x32 ≤ x33) → (vp_in x33 50 ∧ vp_in ((((50 : Int32) * x30) + x31) + x33) 200 ∧ ∀ s36 : MS, s36 = up2 σ 60 ((((50 : Int32) * x30) + x31) + x33).toNatClampNeg (σ 61 x33.toNatClampNeg) → ∀ x38 : Int32, x38 = x33 + 1 → wM_copy_L138 post n s36 x30 x31 x32 x38))
def wM_copy_L101 (post : Int32 → MS → Prop) : Nat → MS → Int32 → Int32 → Int32 → Int32 → Int32 → Int32 → Prop
  | 0, _, _, _, _, _, _, _ => False
  | n + 1, σ, x23, x24, x25, x26, x27, x28 => (x27 ≤ x28 → ∃ n39, wM_copy_L138 post n39 σ x25 x26 x27 0) ∧ (¬ (x27 ≤ x28) → (vp_in ((((50 : Int32) * x23) + x24) + x28) 200 ∧ vp_in x28 50 ∧ ∀ s41 : MS, s41 = up2 σ 61 x28.toNatClampNeg (σ 60 ((((50 : Int32) * x23) + x24) + x28).toNatClampNeg) → ∀ x43 : Int32, x43 = x28 + 1 → wM_copy_L101 post n s41 x23 x24 x25 x26 x27 x43))
def wM_copy (post : Int32 → MS → Prop) (σ : MS) (a1 : Int32) (a2 : Int32) (a3 : Int32) (a4 : Int32) (a5 : Int32) : Prop := wM_isSheet (fun r2 s1 => (r2 = 0 → post (-1) s1) ∧ (¬ (r2 = 0) → wM_isSheet (fun r5 s4 => (¬ (r5 = 0) → (vp_in a1 4 ∧ ((s4 58 a1.toNatClampNeg) < 0 → post (-11) s4) ∧ (¬ ((s4 58 a1.toNatClampNeg) < 0) → (vp_in a3 4 ∧ (0 ≤ (s4 58 a3.toNatClampNeg) → (vp_in a1 4 ∧ vp_in a3 4 ∧ ((s4 58 a1.toNatClampNeg) = (s4 58 a3.toNatClampNeg) → (a5 < 0 → post (-13) s4) ∧ (¬ (a5 < 0) → (vp_in a1 4 ∧ wM_finds (fun r17 s16 => (r17 < 0 → post (-13) s16) ∧ (¬ (r17 < 0) → (vp_in a3 4 ∧ wM_finds (fun r21 s20 => (0 ≤ r21 → ∃ n44, wM_copy_L101 post n44 s20 a1 a2 a3 a4 a5 0) ∧ (¬ (0 ≤ r21) → post (-13) s20)) s16 a3 (s16 58 a3.toNatClampNeg) a4 a5))) s4 a1 (s4 58 a1.toNatClampNeg) a2 a5))) ∧ (¬ ((s4 58 a1.toNatClampNeg) = (s4 58 a3.toNatClampNeg)) → post (-12) s4))) ∧ (¬ (0 ≤ (s4 58 a3.toNatClampNeg)) → post (-11) s4))))) ∧ (r5 = 0 → post (-1) s4)) s1 a3)) σ a1
abbrev rM_copy : Room := { frames := 2, cells := 0, slots := 0, locals := 45 }
set_option maxHeartbeats 4000000 in
set_option maxRecDepth 100000 in
theorem kM_copy_L138 {p : Program} {l : Launch} {e : Env} {s : State} {m : MethodId} {args : Array Value} {below : List Frame} {meth : Method} {c : Code} {g : MG} {post : Int32 → MS → Prop} (F : gFx p s m c meth args cX3_copy 7 RX3 (some .int) (mD g) (mcl g) (mty g)) (hO : MOK g) : ∀ (n : Nat) (σ : MS) (x30 : Int32) (x31 : Int32) (x32 : Int32) (x33 : Int32) (H : Heap) (locs : List Loc) (ls : Array Slot), gSt (MWd g) (MA g) s σ H locs → lv_has ls 7 [(0, .ref (mad g 62)), (3, .int x30), (4, .int x31), (5, .int x32), (6, .int x33)] → wM_copy_L138 post n σ x30 x31 x32 x33 → W p l e rM_copy s m args below meth c H locs 0 0 (MQ below (va_Qi post (gB (MWd g)) (MA g)) args s 0 0 (MA g)) (F0 m 138 ls []) := by
  have hx := F.hx
  have hb := F.hb
  have hts := F.1.2.2.2.2
  have hown := F.1.2.2.2.1
  intro n
  induction n with
  | zero =>
    intro σ x30 x31 x32 x33 H locs ls hS hl h
    exact False.elim h
  | succ n ih =>
    intro σ x30 x31 x32 x33 H locs ls hS hl h
    rw [wM_copy_L138] at h
    refine lv_iload hx hb dX3_copy_138 (lv_at hl 4 rfl) ?_
    refine lv_iload hx hb dX3_copy_140 (lv_at hl 3 rfl) ?_
    refine lv_icmp_ge (tgt := 173) hx hb dX3_copy_142 (by decide) (fun c34 => ?_) (fun c34 => ?_)
    · have h := h.1 c34
      refine lv_iload hx hb dX3_copy_173 (lv_at hl 3 rfl) ?_
      exact gw_iret F hS h dX3_copy_175
    · have h := h.2 c34
      refine lv_aload_n hx hb dX3_copy_145 rfl (lv_at hl 0 rfl) ?_
      refine m_geta F hO hS 60 (by decide) rfl q1457 dX3_copy_146 ?_
      refine lv_bipush (v := 50) hx hb dX3_copy_149 (by decide) ?_
      refine lv_iload_n hx hb dX3_copy_151 rfl (lv_at hl 1 rfl) ?_
      refine lv_imul hx hb dX3_copy_152 ?_
      refine lv_iload hx hb dX3_copy_153 (lv_at hl 2 rfl) ?_
      refine lv_iadd hx hb dX3_copy_155 ?_
      refine lv_iload hx hb dX3_copy_156 (lv_at hl 4 rfl) ?_
      refine lv_iadd hx hb dX3_copy_158 ?_
      refine lv_aload_n hx hb dX3_copy_159 rfl (lv_at hl 0 rfl) ?_
      refine m_geta F hO hS 61 (by decide) rfl q1458 dX3_copy_160 ?_
      refine lv_iload hx hb dX3_copy_163 (lv_at hl 4 rfl) ?_
      obtain ⟨b35, h⟩ := h
      refine m_iald F hS 61 48 rfl rfl b35 dX3_copy_165 ?_
      obtain ⟨b37, h⟩ := h
      refine m_iast F hO hS 60 47 rfl rfl b37 dX3_copy_166 (fun s36 es36 H locs hS => ?_)
      have h := h s36 es36
      obtain ⟨x38, ex38⟩ : ∃ y : Int32, y = x33 + 1 := ⟨_, rfl⟩
      have h := h x38 ex38
      refine lv_iinc (v := x38) (lv' := [(6, .int x38), (0, .ref (mad g 62)), (3, .int x30), (4, .int x31), (5, .int x32)]) hx hb dX3_copy_167 hl (k := 4) rfl (by rw [ex38]; rfl) (by decide) rfl (fun ls hl => ?_)
      refine lv_goto (tgt := 138) hx hb dX3_copy_170 (by decide) ?_
      exact ih s36 x30 x31 x32 x38 H locs ls hS (lv_sub hl [1, 2, 3, 4, 0] rfl) h
set_option maxHeartbeats 4000000 in
set_option maxRecDepth 100000 in
theorem kM_copy_L101 {p : Program} {l : Launch} {e : Env} {s : State} {m : MethodId} {args : Array Value} {below : List Frame} {meth : Method} {c : Code} {g : MG} {post : Int32 → MS → Prop} (F : gFx p s m c meth args cX3_copy 7 RX3 (some .int) (mD g) (mcl g) (mty g)) (hO : MOK g) : ∀ (n : Nat) (σ : MS) (x23 : Int32) (x24 : Int32) (x25 : Int32) (x26 : Int32) (x27 : Int32) (x28 : Int32) (H : Heap) (locs : List Loc) (ls : Array Slot), gSt (MWd g) (MA g) s σ H locs → lv_has ls 7 [(0, .ref (mad g 62)), (1, .int x23), (2, .int x24), (3, .int x25), (4, .int x26), (5, .int x27), (6, .int x28)] → wM_copy_L101 post n σ x23 x24 x25 x26 x27 x28 → W p l e rM_copy s m args below meth c H locs 0 0 (MQ below (va_Qi post (gB (MWd g)) (MA g)) args s 0 0 (MA g)) (F0 m 101 ls []) := by
  have hx := F.hx
  have hb := F.hb
  have hts := F.1.2.2.2.2
  have hown := F.1.2.2.2.1
  intro n
  induction n with
  | zero =>
    intro σ x23 x24 x25 x26 x27 x28 H locs ls hS hl h
    exact False.elim h
  | succ n ih =>
    intro σ x23 x24 x25 x26 x27 x28 H locs ls hS hl h
    rw [wM_copy_L101] at h
    refine lv_iload hx hb dX3_copy_101 (lv_at hl 6 rfl) ?_
    refine lv_iload hx hb dX3_copy_103 (lv_at hl 5 rfl) ?_
    refine lv_icmp_ge (tgt := 135) hx hb dX3_copy_105 (by decide) (fun c29 => ?_) (fun c29 => ?_)
    · have h := h.1 c29
      refine lv_iconst (v := 0) hx hb dX3_copy_135 (by decide) ?_
      refine lv_istore (lv' := [(6, .int 0), (0, .ref (mad g 62)), (1, .int x23), (2, .int x24), (3, .int x25), (4, .int x26), (5, .int x27)]) hx hb dX3_copy_136 hl (by decide) rfl (fun ls hl => ?_)
      obtain ⟨n39, h⟩ := h
      exact (kM_copy_L138 F hO n39) σ x25 x26 x27 0 H locs ls hS (lv_sub hl [1, 4, 5, 6, 0] rfl) h
    · have h := h.2 c29
      refine lv_aload_n hx hb dX3_copy_108 rfl (lv_at hl 0 rfl) ?_
      refine m_geta F hO hS 61 (by decide) rfl q1458 dX3_copy_109 ?_
      refine lv_iload hx hb dX3_copy_112 (lv_at hl 6 rfl) ?_
      refine lv_aload_n hx hb dX3_copy_114 rfl (lv_at hl 0 rfl) ?_
      refine m_geta F hO hS 60 (by decide) rfl q1457 dX3_copy_115 ?_
      refine lv_bipush (v := 50) hx hb dX3_copy_118 (by decide) ?_
      refine lv_iload_n hx hb dX3_copy_120 rfl (lv_at hl 1 rfl) ?_
      refine lv_imul hx hb dX3_copy_121 ?_
      refine lv_iload_n hx hb dX3_copy_122 rfl (lv_at hl 2 rfl) ?_
      refine lv_iadd hx hb dX3_copy_123 ?_
      refine lv_iload hx hb dX3_copy_124 (lv_at hl 6 rfl) ?_
      refine lv_iadd hx hb dX3_copy_126 ?_
      obtain ⟨b40, h⟩ := h
      refine m_iald F hS 60 47 rfl rfl b40 dX3_copy_127 ?_
      obtain ⟨b42, h⟩ := h
      refine m_iast F hO hS 61 48 rfl rfl b42 dX3_copy_128 (fun s41 es41 H locs hS => ?_)
      have h := h s41 es41
      obtain ⟨x43, ex43⟩ : ∃ y : Int32, y = x28 + 1 := ⟨_, rfl⟩
      have h := h x43 ex43
      refine lv_iinc (v := x43) (lv' := [(6, .int x43), (0, .ref (mad g 62)), (1, .int x23), (2, .int x24), (3, .int x25), (4, .int x26), (5, .int x27)]) hx hb dX3_copy_129 hl (k := 6) rfl (by rw [ex43]; rfl) (by decide) rfl (fun ls hl => ?_)
      refine lv_goto (tgt := 101) hx hb dX3_copy_132 (by decide) ?_
      exact ih s41 x23 x24 x25 x26 x27 x43 H locs ls hS (lv_sub hl [1, 2, 3, 4, 5, 6, 0] rfl) h
set_option maxHeartbeats 4000000 in
set_option maxRecDepth 100000 in
theorem kM_copy {p : Program} {l : Launch} {e : Env} {s : State} {m : MethodId} {args : Array Value} {below : List Frame} {meth : Method} {c : Code} {g : MG} {post : Int32 → MS → Prop} (F : gFx p s m c meth args cX3_copy 7 RX3 (some .int) (mD g) (mcl g) (mty g)) (hO : MOK g) (σ : MS) (a1 : Int32) (a2 : Int32) (a3 : Int32) (a4 : Int32) (a5 : Int32) (H : Heap) (locs : List Loc) (ls : Array Slot) (hS : gSt (MWd g) (MA g) s σ H locs) (hl : lv_has ls 7 [(0, .ref (mad g 62)), (1, .int a1), (2, .int a2), (3, .int a3), (4, .int a4), (5, .int a5)]) (h : wM_copy post σ a1 a2 a3 a4 a5) : W p l e rM_copy s m args below meth c H locs 0 0 (MQ below (va_Qi post (gB (MWd g)) (MA g)) args s 0 0 (MA g)) (F0 m 0 ls []) := by
  have hx := F.hx
  have hb := F.hb
  have hts := F.1.2.2.2.2
  have hown := F.1.2.2.2.1
  rw [wM_copy] at h
  refine lv_iload_n hx hb dX3_copy_0 rfl (lv_at hl 1 rfl) ?_
  refine gw_callSi (As := [.int a1]) (rest := []) F hS (tM_isSheet l g hO σ a1 _ h) (va_cwS 1 hts (lw_S q1659 q1660 q90 q1661) rfl rfl rfl (by decide +kernel) ⟨Nat.le_of_ble_eq_true rfl, Nat.le_of_ble_eq_true rfl⟩) rfl hl.1 rfl (Nat.le_of_ble_eq_true rfl) dX3_copy_1 ⟨Nat.le_refl 0, Nat.le_refl 0⟩ (fun r2 s1 H locs h hS => ?_)
  obtain ⟨zr2, h⟩ := h
  refine lv_if_eq (tgt := 14) hx hb dX3_copy_4 (by decide) (fun c3 => ?_) (fun c3 => ?_)
  · have h := h.1 c3
    refine lv_iconst (v := (-1)) hx hb dX3_copy_14 (by decide) ?_
    exact gw_iret F hS h dX3_copy_15
  · have h := h.2 c3
    refine lv_iload_n hx hb dX3_copy_7 rfl (lv_at hl 3 rfl) ?_
    refine gw_callSi (As := [.int a3]) (rest := []) F hS (tM_isSheet l g hO s1 a3 _ h) (va_cwS 1 hts (lw_S q1659 q1660 q90 q1661) rfl rfl rfl (by decide +kernel) ⟨Nat.le_of_ble_eq_true rfl, Nat.le_of_ble_eq_true rfl⟩) rfl hl.1 rfl (Nat.le_of_ble_eq_true rfl) dX3_copy_8 ⟨Nat.le_refl 0, Nat.le_refl 0⟩ (fun r5 s4 H locs h hS => ?_)
    obtain ⟨zr5, h⟩ := h
    refine lv_if_ne (tgt := 16) hx hb dX3_copy_11 (by decide) (fun c6 => ?_) (fun c6 => ?_)
    · have h := h.1 c6
      refine lv_aload_n hx hb dX3_copy_16 rfl (lv_at hl 0 rfl) ?_
      refine m_geta F hO hS 58 (by decide) rfl q1455 dX3_copy_17 ?_
      refine lv_iload_n hx hb dX3_copy_20 rfl (lv_at hl 1 rfl) ?_
      obtain ⟨b7, h⟩ := h
      refine m_iald F hS 58 45 rfl rfl b7 dX3_copy_21 ?_
      refine lv_if_lt (tgt := 34) hx hb dX3_copy_22 (by decide) (fun c8 => ?_) (fun c8 => ?_)
      · have h := h.1 c8
        refine lv_bipush (v := (-11)) hx hb dX3_copy_34 (by decide) ?_
        exact gw_iret F hS h dX3_copy_36
      · have h := h.2 c8
        refine lv_aload_n hx hb dX3_copy_25 rfl (lv_at hl 0 rfl) ?_
        refine m_geta F hO hS 58 (by decide) rfl q1455 dX3_copy_26 ?_
        refine lv_iload_n hx hb dX3_copy_29 rfl (lv_at hl 3 rfl) ?_
        obtain ⟨b9, h⟩ := h
        refine m_iald F hS 58 45 rfl rfl b9 dX3_copy_30 ?_
        refine lv_if_ge (tgt := 37) hx hb dX3_copy_31 (by decide) (fun c10 => ?_) (fun c10 => ?_)
        · have h := h.1 c10
          refine lv_aload_n hx hb dX3_copy_37 rfl (lv_at hl 0 rfl) ?_
          refine m_geta F hO hS 58 (by decide) rfl q1455 dX3_copy_38 ?_
          refine lv_iload_n hx hb dX3_copy_41 rfl (lv_at hl 1 rfl) ?_
          obtain ⟨b11, h⟩ := h
          refine m_iald F hS 58 45 rfl rfl b11 dX3_copy_42 ?_
          refine lv_aload_n hx hb dX3_copy_43 rfl (lv_at hl 0 rfl) ?_
          refine m_geta F hO hS 58 (by decide) rfl q1455 dX3_copy_44 ?_
          refine lv_iload_n hx hb dX3_copy_47 rfl (lv_at hl 3 rfl) ?_
          obtain ⟨b12, h⟩ := h
          refine m_iald F hS 58 45 rfl rfl b12 dX3_copy_48 ?_
          refine lv_icmp_eq (tgt := 55) hx hb dX3_copy_49 (by decide) (fun c13 => ?_) (fun c13 => ?_)
          · have h := h.1 c13
            refine lv_iload hx hb dX3_copy_55 (lv_at hl 5 rfl) ?_
            refine lv_if_lt (tgt := 95) hx hb dX3_copy_57 (by decide) (fun c14 => ?_) (fun c14 => ?_)
            · have h := h.1 c14
              refine lv_bipush (v := (-13)) hx hb dX3_copy_95 (by decide) ?_
              exact gw_iret F hS h dX3_copy_97
            · have h := h.2 c14
              refine lv_aload_n hx hb dX3_copy_60 rfl (lv_at hl 0 rfl) ?_
              refine lv_iload_n hx hb dX3_copy_61 rfl (lv_at hl 1 rfl) ?_
              refine lv_aload_n hx hb dX3_copy_62 rfl (lv_at hl 0 rfl) ?_
              refine m_geta F hO hS 58 (by decide) rfl q1455 dX3_copy_63 ?_
              refine lv_iload_n hx hb dX3_copy_66 rfl (lv_at hl 1 rfl) ?_
              obtain ⟨b15, h⟩ := h
              refine m_iald F hS 58 45 rfl rfl b15 dX3_copy_67 ?_
              refine lv_iload_n hx hb dX3_copy_68 rfl (lv_at hl 2 rfl) ?_
              refine lv_iload hx hb dX3_copy_69 (lv_at hl 5 rfl) ?_
              refine gw_callVi (As := [.int a1, .int (s4 58 a1.toNatClampNeg), .int a2, .int a5]) (rest := []) F hS (tM_finds l g hO s4 a1 (s4 58 a1.toNatClampNeg) a2 a5 _ h) (cwV 4 hts (lw_V q1662 q1664 qs44 q90 q1665) rfl rfl rfl (by decide +kernel) ⟨Nat.le_of_ble_eq_true rfl, Nat.le_of_ble_eq_true rfl⟩) (m_rec F hO hS) rfl hl.1 rfl (Nat.le_of_ble_eq_true rfl) dX3_copy_71 ⟨Nat.le_refl 0, Nat.le_refl 0⟩ (fun r17 s16 H locs h hS => ?_)
              refine lv_if_lt (tgt := 95) hx hb dX3_copy_74 (by decide) (fun c18 => ?_) (fun c18 => ?_)
              · have h := h.1 c18
                refine lv_bipush (v := (-13)) hx hb dX3_copy_95 (by decide) ?_
                exact gw_iret F hS h dX3_copy_97
              · have h := h.2 c18
                refine lv_aload_n hx hb dX3_copy_77 rfl (lv_at hl 0 rfl) ?_
                refine lv_iload_n hx hb dX3_copy_78 rfl (lv_at hl 3 rfl) ?_
                refine lv_aload_n hx hb dX3_copy_79 rfl (lv_at hl 0 rfl) ?_
                refine m_geta F hO hS 58 (by decide) rfl q1455 dX3_copy_80 ?_
                refine lv_iload_n hx hb dX3_copy_83 rfl (lv_at hl 3 rfl) ?_
                obtain ⟨b19, h⟩ := h
                refine m_iald F hS 58 45 rfl rfl b19 dX3_copy_84 ?_
                refine lv_iload hx hb dX3_copy_85 (lv_at hl 4 rfl) ?_
                refine lv_iload hx hb dX3_copy_87 (lv_at hl 5 rfl) ?_
                refine gw_callVi (As := [.int a3, .int (s16 58 a3.toNatClampNeg), .int a4, .int a5]) (rest := []) F hS (tM_finds l g hO s16 a3 (s16 58 a3.toNatClampNeg) a4 a5 _ h) (cwV 4 hts (lw_V q1662 q1664 qs44 q90 q1665) rfl rfl rfl (by decide +kernel) ⟨Nat.le_of_ble_eq_true rfl, Nat.le_of_ble_eq_true rfl⟩) (m_rec F hO hS) rfl hl.1 rfl (Nat.le_of_ble_eq_true rfl) dX3_copy_89 ⟨Nat.le_refl 0, Nat.le_refl 0⟩ (fun r21 s20 H locs h hS => ?_)
                refine lv_if_ge (tgt := 98) hx hb dX3_copy_92 (by decide) (fun c22 => ?_) (fun c22 => ?_)
                · have h := h.1 c22
                  refine lv_iconst (v := 0) hx hb dX3_copy_98 (by decide) ?_
                  refine lv_istore (lv' := [(6, .int 0), (0, .ref (mad g 62)), (1, .int a1), (2, .int a2), (3, .int a3), (4, .int a4), (5, .int a5)]) hx hb dX3_copy_99 hl (by decide) rfl (fun ls hl => ?_)
                  obtain ⟨n44, h⟩ := h
                  exact (kM_copy_L101 F hO n44) s20 a1 a2 a3 a4 a5 0 H locs ls hS (lv_sub hl [1, 2, 3, 4, 5, 6, 0] rfl) h
                · have h := h.2 c22
                  refine lv_bipush (v := (-13)) hx hb dX3_copy_95 (by decide) ?_
                  exact gw_iret F hS h dX3_copy_97
          · have h := h.2 c13
            refine lv_bipush (v := (-12)) hx hb dX3_copy_52 (by decide) ?_
            exact gw_iret F hS h dX3_copy_54
        · have h := h.2 c10
          refine lv_bipush (v := (-11)) hx hb dX3_copy_34 (by decide) ?_
          exact gw_iret F hS h dX3_copy_36
    · have h := h.2 c6
      refine lv_iconst (v := (-1)) hx hb dX3_copy_14 (by decide) ?_
      exact gw_iret F hS h dX3_copy_15
set_option maxHeartbeats 4000000 in
set_option maxRecDepth 100000 in
theorem tM_copy (l : Launch) (g : MG) (hO : MOK g) (σ : MS) (a1 : Int32) (a2 : Int32) (a3 : Int32) (a4 : Int32) (a5 : Int32) (post : Int32 → MS → Prop) (h : wM_copy post σ a1 a2 a3 a4 a5) : Met l yX3_copy (ws_ yX3_copy cX3_copy 7 (some .int)) rM_copy (va_Pc [.ref (mad g 62), .int a1, .int a2, .int a3, .int a4, .int a5] (gPre (MWd g) (mD g) (mcl g) (mty g) σ)) (va_Qi post (gB (MWd g)) (MA g)) 0 0 (MA g) := by
  refine Met.ofW (cc := cX3_copy) (maxL := 7) (ret := (some .int)) (by decide) rfl ?_
  intro p e s m args below meth c s₁ B hml hv
  obtain ⟨rfl, hW, hK⟩ := hv
  have hts := atoms_spec (ws := (ws_ yX3_copy cX3_copy 7 (some .int))) B.pre
  have hts : ∀ w ∈ lw_all, w.before _ s = true := fun w h => hts w (List.mem_cons_of_mem _ h)
  have hl := lv_entry ([.ref (mad g 62), .int a1, .int a2, .int a3, .int a4, .int a5]) (n := 7) (Nat.le_of_ble_eq_true rfl)
  rw [lg_entry_eq]
  generalize (lg_sl ([.ref (mad g 62), .int a1, .int a2, .int a3, .int a4, .int a5]) ++ List.replicate (7 - (lg_sl ([.ref (mad g 62), .int a1, .int a2, .int a3, .int a4, .int a5])).length) Slot.unset).toArray = ls at hl ⊢
  exact kM_copy ⟨⟨B.exec, B.bytes, hml, findClass_of_methodNamed B.named, hts⟩, hK, B.returns, B.notSynchronized⟩ hO σ a1 a2 a3 a4 a5 s.heap [] ls ⟨hW, va_S.rf⟩ hl h
