def wM_childrenOf_L4 (post : Int32 → MS → Prop) : Nat → MS → Int32 → Int32 → Int32 → Prop
  | 0, _, _, _, _ => False
  | n + 1, σ, x1, x2, x3 => ((σ 18 0) ≤ x3 → post x2 σ) ∧ (¬ ((σ 18 0) ≤ x3) → (vp_in x3 16 ∧ (∀ v7 : Int32, v7 = (if (σ 20 x3.toNatClampNeg) = x1 then 1 else 0) → (∀ x9 : Int32, x9 = x2 + v7 → ∀ x10 : Int32, x10 = x3 + 1 → wM_childrenOf_L4 post n σ x1 x9 x10))))
def wM_childrenOf (post : Int32 → MS → Prop) (σ : MS) (a1 : Int32) : Prop := ∃ n11, wM_childrenOf_L4 post n11 σ a1 0 0
abbrev rM_childrenOf : Room := { frames := 0, cells := 0, slots := 0, locals := 0 }
set_option maxHeartbeats 4000000 in
set_option maxRecDepth 100000 in
theorem kM_childrenOf_L4 {p : Program} {l : Launch} {e : Env} {s : State} {m : MethodId} {args : Array Value} {below : List Frame} {meth : Method} {c : Code} {g : MG} {post : Int32 → MS → Prop} (F : gFx p s m c meth args cX3_childrenOf 4 RX3 (some .int) (mD g) (mcl g) (mty g)) (hO : MOK g) : ∀ (n : Nat) (σ : MS) (x1 : Int32) (x2 : Int32) (x3 : Int32) (H : Heap) (locs : List Loc) (ls : Array Slot), gSt (MWd g) (MA g) s σ H locs → lv_has ls 4 [(0, .ref (mad g 62)), (1, .int x1), (2, .int x2), (3, .int x3)] → wM_childrenOf_L4 post n σ x1 x2 x3 → W p l e rM_childrenOf s m args below meth c H locs 0 0 (MQ below (va_Qi post (gB (MWd g)) (MA g)) args s 0 0 (MA g)) (F0 m 4 ls []) := by
  have hx := F.hx
  have hb := F.hb
  have hts := F.1.2.2.2.2
  have hown := F.1.2.2.2.1
  intro n
  induction n with
  | zero =>
    intro σ x1 x2 x3 H locs ls hS hl h
    exact False.elim h
  | succ n ih =>
    intro σ x1 x2 x3 H locs ls hS hl h
    rw [wM_childrenOf_L4] at h
    refine lv_iload_n hx hb dX3_childrenOf_4 rfl (lv_at hl 3 rfl) ?_
    refine lv_aload_n hx hb dX3_childrenOf_5 rfl (lv_at hl 0 rfl) ?_
    refine m_geti F hO hS 18 (by decide) rfl q1415 dX3_childrenOf_6 ?_
    refine lv_icmp_ge (tgt := 36) hx hb dX3_childrenOf_9 (by decide) (fun c4 => ?_) (fun c4 => ?_)
    · have h := h.1 c4
      refine lv_iload_n hx hb dX3_childrenOf_36 rfl (lv_at hl 2 rfl) ?_
      exact gw_iret F hS h dX3_childrenOf_37
    · have h := h.2 c4
      refine lv_iload_n hx hb dX3_childrenOf_12 rfl (lv_at hl 2 rfl) ?_
      refine lv_aload_n hx hb dX3_childrenOf_13 rfl (lv_at hl 0 rfl) ?_
      refine m_geta F hO hS 20 (by decide) rfl q1417 dX3_childrenOf_14 ?_
      refine lv_iload_n hx hb dX3_childrenOf_17 rfl (lv_at hl 3 rfl) ?_
      obtain ⟨b5, h⟩ := h
      refine m_iald F hS 20 16 rfl rfl b5 dX3_childrenOf_18 ?_
      refine lv_iload_n hx hb dX3_childrenOf_19 rfl (lv_at hl 1 rfl) ?_
      refine gcut (P := ∀ (v7 : Int32) (H : Heap) (locs : List Loc) (ls : Array Slot), v7 = (if (σ 20 x3.toNatClampNeg) = x1 then 1 else 0) → gSt (MWd g) (MA g) s σ H locs → lv_has ls 4 [(0, .ref (mad g 62)), (1, .int x1), (3, .int x3)] → W p l e rM_childrenOf s m args below meth c H locs 0 0 (MQ below (va_Qi post (gB (MWd g)) (MA g)) args s 0 0 (MA g)) (F0 m 28 ls [.int v7, .int x2])) (fun v7 H locs ls ev7 hS hl => ?_) (fun J8 => ?_)
      · have h := h v7 ev7
        refine lv_iadd hx hb dX3_childrenOf_28 ?_
        refine lv_topi (fun x9 ex9 => ?_)
        have h := h x9 ex9
        refine lv_istore_n (lv' := [(2, .int x9), (0, .ref (mad g 62)), (1, .int x1), (3, .int x3)]) hx hb dX3_childrenOf_29 rfl hl (by decide) rfl (fun ls hl => ?_)
        obtain ⟨x10, ex10⟩ : ∃ y : Int32, y = x3 + 1 := ⟨_, rfl⟩
        have h := h x10 ex10
        refine lv_iinc (v := x10) (lv' := [(3, .int x10), (2, .int x9), (0, .ref (mad g 62)), (1, .int x1)]) hx hb dX3_childrenOf_30 hl (k := 3) rfl (by rw [ex10]; rfl) (by decide) rfl (fun ls hl => ?_)
        refine lv_goto (tgt := 4) hx hb dX3_childrenOf_33 (by decide) ?_
        exact ih σ x1 x9 x10 H locs ls hS (lv_sub hl [2, 3, 1, 0] rfl) h
      · refine lv_icmp_ne (tgt := 27) hx hb dX3_childrenOf_20 (by decide) (fun c6 => ?_) (fun c6 => ?_)
        · refine lv_iconst (v := 0) hx hb dX3_childrenOf_27 (by decide) ?_
          exact J8 _ H locs ls (by first | with_reducible rfl | ((try rw [if_neg c6]); done)) hS (lv_sub hl [0, 1, 3] rfl)
        · refine lv_iconst (v := 1) hx hb dX3_childrenOf_23 (by decide) ?_
          refine lv_goto (tgt := 28) hx hb dX3_childrenOf_24 (by decide) ?_
          exact J8 _ H locs ls (by first | with_reducible rfl | ((try rw [if_pos c6]); done)) hS (lv_sub hl [0, 1, 3] rfl)
set_option maxHeartbeats 4000000 in
set_option maxRecDepth 100000 in
theorem kM_childrenOf {p : Program} {l : Launch} {e : Env} {s : State} {m : MethodId} {args : Array Value} {below : List Frame} {meth : Method} {c : Code} {g : MG} {post : Int32 → MS → Prop} (F : gFx p s m c meth args cX3_childrenOf 4 RX3 (some .int) (mD g) (mcl g) (mty g)) (hO : MOK g) (σ : MS) (a1 : Int32) (H : Heap) (locs : List Loc) (ls : Array Slot) (hS : gSt (MWd g) (MA g) s σ H locs) (hl : lv_has ls 4 [(0, .ref (mad g 62)), (1, .int a1)]) (h : wM_childrenOf post σ a1) : W p l e rM_childrenOf s m args below meth c H locs 0 0 (MQ below (va_Qi post (gB (MWd g)) (MA g)) args s 0 0 (MA g)) (F0 m 0 ls []) := by
  have hx := F.hx
  have hb := F.hb
  have hts := F.1.2.2.2.2
  have hown := F.1.2.2.2.1
  rw [wM_childrenOf] at h
  refine lv_iconst (v := 0) hx hb dX3_childrenOf_0 (by decide) ?_
  refine lv_istore_n (lv' := [(2, .int 0), (0, .ref (mad g 62)), (1, .int a1)]) hx hb dX3_childrenOf_1 rfl hl (by decide) rfl (fun ls hl => ?_)
  refine lv_iconst (v := 0) hx hb dX3_childrenOf_2 (by decide) ?_
  refine lv_istore_n (lv' := [(3, .int 0), (2, .int 0), (0, .ref (mad g 62)), (1, .int a1)]) hx hb dX3_childrenOf_3 rfl hl (by decide) rfl (fun ls hl => ?_)
  obtain ⟨n11, h⟩ := h
  exact (kM_childrenOf_L4 F hO n11) σ a1 0 0 H locs ls hS (lv_sub hl [2, 3, 1, 0] rfl) h
set_option maxHeartbeats 4000000 in
set_option maxRecDepth 100000 in
theorem tM_childrenOf (l : Launch) (g : MG) (hO : MOK g) (σ : MS) (a1 : Int32) (post : Int32 → MS → Prop) (h : wM_childrenOf post σ a1) : Met l yX3_childrenOf (ws_ yX3_childrenOf cX3_childrenOf 4 (some .int)) rM_childrenOf (va_Pc [.ref (mad g 62), .int a1] (gPre (MWd g) (mD g) (mcl g) (mty g) σ)) (va_Qi post (gB (MWd g)) (MA g)) 0 0 (MA g) := by
  refine Met.ofW (cc := cX3_childrenOf) (maxL := 4) (ret := (some .int)) (by decide) rfl ?_
  intro p e s m args below meth c s₁ B hml hv
  obtain ⟨rfl, hW, hK⟩ := hv
  have hts := atoms_spec (ws := (ws_ yX3_childrenOf cX3_childrenOf 4 (some .int))) B.pre
  have hts : ∀ w ∈ lw_all, w.before _ s = true := fun w h => hts w (List.mem_cons_of_mem _ h)
  have hl := lv_entry ([.ref (mad g 62), .int a1]) (n := 4) (Nat.le_of_ble_eq_true rfl)
  rw [lg_entry_eq]
  generalize (lg_sl ([.ref (mad g 62), .int a1]) ++ List.replicate (4 - (lg_sl ([.ref (mad g 62), .int a1])).length) Slot.unset).toArray = ls at hl ⊢
  exact kM_childrenOf ⟨⟨B.exec, B.bytes, hml, findClass_of_methodNamed B.named, hts⟩, hK, B.returns, B.notSynchronized⟩ hO σ a1 s.heap [] ls ⟨hW, va_S.rf⟩ hl h
def wM_told (post : Int32 → MS → Prop) (σ : MS) (a1 : Int32) (a2 : Int32) : Prop := wM_isPerson (fun r2 s1 => (¬ (r2 = 0) → (a2 = 0 → (vp_in a1 16 ∧ post (s1 19 a1.toNatClampNeg) s1)) ∧ (a2 = 1 → (vp_in a1 16 ∧ (((0 ≤ (s1 20 a1.toNatClampNeg) → vp_in a1 16)) ∧ ∀ v9 : Int32, v9 = (if 0 ≤ (s1 20 a1.toNatClampNeg) then s1 20 a1.toNatClampNeg else (-4)) → post v9 s1))) ∧ (a2 = 2 → wM_childrenOf (fun r14 s13 => post r14 s13) s1 a1) ∧ (a2 = 3 → wM_isAt (fun r17 s16 => (((¬ (r17 = 0) → vp_in a1 16)) ∧ ∀ v20 : Int32, v20 = (if r17 = 0 then 0 else if (s16 23 a1.toNatClampNeg) = 0 then 0 else 1) → post v20 s16)) s1 a1) ∧ (a2 = 4 → (vp_in a1 16 ∧ wM_in (fun r26 s25 => (((¬ (r26 = 0) → vp_in a1 16)) ∧ ∀ v28 : Int32, v28 = (if r26 = 0 then (-4) else s25 22 a1.toNatClampNeg) → post v28 s25)) s1 ((s1 21 a1.toNatClampNeg).toInt64) 100 115)) ∧ (¬ a2 = 0 → ¬ a2 = 1 → ¬ a2 = 2 → ¬ a2 = 3 → ¬ a2 = 4 → post (-1) s1)) ∧ (r2 = 0 → post (-1) s1)) σ a1
abbrev rM_told : Room := { frames := 2, cells := 0, slots := 0, locals := 46 }
set_option maxHeartbeats 4000000 in
set_option maxRecDepth 100000 in
theorem kM_told {p : Program} {l : Launch} {e : Env} {s : State} {m : MethodId} {args : Array Value} {below : List Frame} {meth : Method} {c : Code} {g : MG} {post : Int32 → MS → Prop} (F : gFx p s m c meth args cX3_told 3 RX3 (some .int) (mD g) (mcl g) (mty g)) (hO : MOK g) (σ : MS) (a1 : Int32) (a2 : Int32) (H : Heap) (locs : List Loc) (ls : Array Slot) (hS : gSt (MWd g) (MA g) s σ H locs) (hl : lv_has ls 3 [(0, .ref (mad g 62)), (1, .int a1), (2, .int a2)]) (h : wM_told post σ a1 a2) : W p l e rM_told s m args below meth c H locs 0 0 (MQ below (va_Qi post (gB (MWd g)) (MA g)) args s 0 0 (MA g)) (F0 m 0 ls []) := by
  have hx := F.hx
  have hb := F.hb
  have hts := F.1.2.2.2.2
  have hown := F.1.2.2.2.1
  rw [wM_told] at h
  refine lv_aload_n hx hb dX3_told_0 rfl (lv_at hl 0 rfl) ?_
  refine lv_iload_n hx hb dX3_told_1 rfl (lv_at hl 1 rfl) ?_
  refine gw_callVi (As := [.int a1]) (rest := []) F hS (tM_isPerson l g hO σ a1 _ h) (cwV 1 hts (lw_V q1713 q1715 qs52 q90 q1716) rfl rfl rfl (by decide +kernel) ⟨Nat.le_of_ble_eq_true rfl, Nat.le_of_ble_eq_true rfl⟩) (m_rec F hO hS) rfl hl.1 rfl (Nat.le_of_ble_eq_true rfl) dX3_told_2 ⟨Nat.le_refl 0, Nat.le_refl 0⟩ (fun r2 s1 H locs h hS => ?_)
  obtain ⟨zr2, h⟩ := h
  refine lv_if_ne (tgt := 10) hx hb dX3_told_5 (by decide) (fun c3 => ?_) (fun c3 => ?_)
  · have h := h.1 c3
    refine lv_iload_n hx hb dX3_told_10 rfl (lv_at hl 2 rfl) ?_
    by_cases c4 : a2 = 0
    · have h := h.1 c4
      refine lv_tableIn (off := 33) (tgt := 44) hx hb dX3_told_11 (by rw [c4]; decide) (by rw [c4]; decide) (by rw [c4]; rfl) (by decide) ?_
      refine lv_aload_n hx hb dX3_told_44 rfl (lv_at hl 0 rfl) ?_
      refine m_geta F hO hS 19 (by decide) rfl q1416 dX3_told_45 ?_
      refine lv_iload_n hx hb dX3_told_48 rfl (lv_at hl 1 rfl) ?_
      obtain ⟨b5, h⟩ := h
      refine m_iald F hS 19 15 rfl rfl b5 dX3_told_49 ?_
      exact gw_iret F hS h dX3_told_50
    have h := h.2
    by_cases c6 : a2 = 1
    · have h := h.1 c6
      refine lv_tableIn (off := 40) (tgt := 51) hx hb dX3_told_11 (by rw [c6]; decide) (by rw [c6]; decide) (by rw [c6]; rfl) (by decide) ?_
      refine lv_aload_n hx hb dX3_told_51 rfl (lv_at hl 0 rfl) ?_
      refine m_geta F hO hS 20 (by decide) rfl q1417 dX3_told_52 ?_
      refine lv_iload_n hx hb dX3_told_55 rfl (lv_at hl 1 rfl) ?_
      obtain ⟨b7, h⟩ := h
      refine m_iald F hS 20 16 rfl rfl b7 dX3_told_56 ?_
      obtain ⟨b10, h⟩ := h
      refine gcut (P := ∀ (v9 : Int32) (H : Heap) (locs : List Loc) (ls : Array Slot), v9 = (if 0 ≤ (s1 20 a1.toNatClampNeg) then s1 20 a1.toNatClampNeg else (-4)) → gSt (MWd g) (MA g) s s1 H locs → lv_has ls 3 [] → W p l e rM_told s m args below meth c H locs 0 0 (MQ below (va_Qi post (gB (MWd g)) (MA g)) args s 0 0 (MA g)) (F0 m 71 ls [.int v9])) (fun v9 H locs ls ev9 hS hl => ?_) (fun J11 => ?_)
      · have h := h v9 ev9
        exact gw_iret F hS h dX3_told_71
      · refine lv_if_ge (tgt := 65) hx hb dX3_told_57 (by decide) (fun c8 => ?_) (fun c8 => ?_)
        · refine lv_aload_n hx hb dX3_told_65 rfl (lv_at hl 0 rfl) ?_
          refine m_geta F hO hS 20 (by decide) rfl q1417 dX3_told_66 ?_
          refine lv_iload_n hx hb dX3_told_69 rfl (lv_at hl 1 rfl) ?_
          refine m_iald F hS 20 16 rfl rfl ((b10 c8)) dX3_told_70 ?_
          exact J11 _ H locs ls (by first | with_reducible rfl | ((try rw [if_pos c8]); done)) hS (lv_sub hl [] rfl)
        · refine lv_bipush (v := (-4)) hx hb dX3_told_60 (by decide) ?_
          refine lv_goto (tgt := 71) hx hb dX3_told_62 (by decide) ?_
          exact J11 _ H locs ls (by first | with_reducible rfl | ((try rw [if_neg c8]); done)) hS (lv_sub hl [] rfl)
    have h := h.2
    by_cases c12 : a2 = 2
    · have h := h.1 c12
      refine lv_tableIn (off := 61) (tgt := 72) hx hb dX3_told_11 (by rw [c12]; decide) (by rw [c12]; decide) (by rw [c12]; rfl) (by decide) ?_
      refine lv_aload_n hx hb dX3_told_72 rfl (lv_at hl 0 rfl) ?_
      refine lv_iload_n hx hb dX3_told_73 rfl (lv_at hl 1 rfl) ?_
      refine gw_callVi (As := [.int a1]) (rest := []) F hS (tM_childrenOf l g hO s1 a1 _ h) (cwV 1 hts (lw_V q1729 q1731 qs54 q90 q1732) rfl rfl rfl (by decide +kernel) ⟨Nat.le_of_ble_eq_true rfl, Nat.le_of_ble_eq_true rfl⟩) (m_rec F hO hS) rfl hl.1 rfl (Nat.le_of_ble_eq_true rfl) dX3_told_74 ⟨Nat.le_refl 0, Nat.le_refl 0⟩ (fun r14 s13 H locs h hS => ?_)
      exact gw_iret F hS h dX3_told_77
    have h := h.2
    by_cases c15 : a2 = 3
    · have h := h.1 c15
      refine lv_tableIn (off := 67) (tgt := 78) hx hb dX3_told_11 (by rw [c15]; decide) (by rw [c15]; decide) (by rw [c15]; rfl) (by decide) ?_
      refine lv_aload_n hx hb dX3_told_78 rfl (lv_at hl 0 rfl) ?_
      refine lv_iload_n hx hb dX3_told_79 rfl (lv_at hl 1 rfl) ?_
      refine gw_callVi (As := [.int a1]) (rest := []) F hS (tM_isAt l g hO s1 a1 _ h) (cwV 1 hts (lw_V q1717 q1719 qs53 q90 q1720) rfl rfl rfl (by decide +kernel) ⟨Nat.le_of_ble_eq_true rfl, Nat.le_of_ble_eq_true rfl⟩) (m_rec F hO hS) rfl hl.1 rfl (Nat.le_of_ble_eq_true rfl) dX3_told_80 ⟨Nat.le_refl 0, Nat.le_refl 0⟩ (fun r17 s16 H locs h hS => ?_)
      obtain ⟨zr17, h⟩ := h
      obtain ⟨b21, h⟩ := h
      refine gcut (P := ∀ (v20 : Int32) (H : Heap) (locs : List Loc) (ls : Array Slot), v20 = (if r17 = 0 then 0 else if (s16 23 a1.toNatClampNeg) = 0 then 0 else 1) → gSt (MWd g) (MA g) s s16 H locs → lv_has ls 3 [] → W p l e rM_told s m args below meth c H locs 0 0 (MQ below (va_Qi post (gB (MWd g)) (MA g)) args s 0 0 (MA g)) (F0 m 100 ls [.int v20])) (fun v20 H locs ls ev20 hS hl => ?_) (fun J22 => ?_)
      · have h := h v20 ev20
        exact gw_iret F hS h dX3_told_100
      · refine lv_if_eq (tgt := 99) hx hb dX3_told_83 (by decide) (fun c18 => ?_) (fun c18 => ?_)
        · refine lv_iconst (v := 0) hx hb dX3_told_99 (by decide) ?_
          exact J22 _ H locs ls (by first | with_reducible rfl | ((try rw [if_pos c18]); done)) hS (lv_sub hl [] rfl)
        · refine lv_aload_n hx hb dX3_told_86 rfl (lv_at hl 0 rfl) ?_
          refine m_geta F hO hS 23 (by decide) rfl q1420 dX3_told_87 ?_
          refine lv_iload_n hx hb dX3_told_90 rfl (lv_at hl 1 rfl) ?_
          refine m_zald F hS 23 19 rfl rfl ((b21 c18)) dX3_told_91 ?_
          refine lv_if_eq (tgt := 99) hx hb dX3_told_92 (by decide) (fun c19 => ?_) (fun c19 => ?_)
          · refine lv_iconst (v := 0) hx hb dX3_told_99 (by decide) ?_
            exact J22 _ H locs ls (by first | with_reducible rfl | ((try rw [if_neg c18]); (try rw [if_pos c19]); done)) hS (lv_sub hl [] rfl)
          · refine lv_iconst (v := 1) hx hb dX3_told_95 (by decide) ?_
            refine lv_goto (tgt := 100) hx hb dX3_told_96 (by decide) ?_
            exact J22 _ H locs ls (by first | with_reducible rfl | ((try rw [if_neg c18]); (try rw [if_neg c19]); done)) hS (lv_sub hl [] rfl)
    have h := h.2
    by_cases c23 : a2 = 4
    · have h := h.1 c23
      refine lv_tableIn (off := 90) (tgt := 101) hx hb dX3_told_11 (by rw [c23]; decide) (by rw [c23]; decide) (by rw [c23]; rfl) (by decide) ?_
      refine lv_aload_n hx hb dX3_told_101 rfl (lv_at hl 0 rfl) ?_
      refine m_geta F hO hS 21 (by decide) rfl q1418 dX3_told_102 ?_
      refine lv_iload_n hx hb dX3_told_105 rfl (lv_at hl 1 rfl) ?_
      obtain ⟨b24, h⟩ := h
      refine m_iald F hS 21 17 rfl rfl b24 dX3_told_106 ?_
      refine lv_i2l hx hb dX3_told_107 rfl ?_
      refine lv_ldc2 (v := 100) hx hb hown (hts _ q1733) dX3_told_108 ?_
      refine lv_ldc2 (v := 115) hx hb hown (hts _ q1734) dX3_told_111 ?_
      refine gw_callSi (As := [.long ((s1 21 a1.toNatClampNeg).toInt64), .long 100, .long 115]) (rest := []) F hS (tM_in l g hO s1 ((s1 21 a1.toNatClampNeg).toInt64) 100 115 _ h) (va_cwS 3 hts (lw_S q1593 q1594 q90 q1595) rfl rfl rfl (by decide +kernel) ⟨Nat.le_of_ble_eq_true rfl, Nat.le_of_ble_eq_true rfl⟩) rfl hl.1 rfl (Nat.le_of_ble_eq_true rfl) dX3_told_114 ⟨Nat.le_refl 0, Nat.le_refl 0⟩ (fun r26 s25 H locs h hS => ?_)
      obtain ⟨zr26, h⟩ := h
      obtain ⟨b29, h⟩ := h
      refine gcut (P := ∀ (v28 : Int32) (H : Heap) (locs : List Loc) (ls : Array Slot), v28 = (if r26 = 0 then (-4) else s25 22 a1.toNatClampNeg) → gSt (MWd g) (MA g) s s25 H locs → lv_has ls 3 [] → W p l e rM_told s m args below meth c H locs 0 0 (MQ below (va_Qi post (gB (MWd g)) (MA g)) args s 0 0 (MA g)) (F0 m 131 ls [.int v28])) (fun v28 H locs ls ev28 hS hl => ?_) (fun J30 => ?_)
      · have h := h v28 ev28
        exact gw_iret F hS h dX3_told_131
      · refine lv_if_eq (tgt := 129) hx hb dX3_told_117 (by decide) (fun c27 => ?_) (fun c27 => ?_)
        · refine lv_bipush (v := (-4)) hx hb dX3_told_129 (by decide) ?_
          exact J30 _ H locs ls (by first | with_reducible rfl | ((try rw [if_pos c27]); done)) hS (lv_sub hl [] rfl)
        · refine lv_aload_n hx hb dX3_told_120 rfl (lv_at hl 0 rfl) ?_
          refine m_geta F hO hS 22 (by decide) rfl q1419 dX3_told_121 ?_
          refine lv_iload_n hx hb dX3_told_124 rfl (lv_at hl 1 rfl) ?_
          refine m_iald F hS 22 18 rfl rfl ((b29 c27)) dX3_told_125 ?_
          refine lv_goto (tgt := 131) hx hb dX3_told_126 (by decide) ?_
          exact J30 _ H locs ls (by first | with_reducible rfl | ((try rw [if_neg c27]); done)) hS (lv_sub hl [] rfl)
    have h := h.2
    have h := h c4 c6 c12 c15 c23
    have c4 := lv_neT (a := 0) c4 (by decide)
    have c6 := lv_neT (a := 1) c6 (by decide)
    have c12 := lv_neT (a := 2) c12 (by decide)
    have c15 := lv_neT (a := 3) c15 (by decide)
    have c23 := lv_neT (a := 4) c23 (by decide)
    refine lv_tableOut (tgt := 132) hx hb dX3_told_11 (by omega) (by decide) ?_
    refine lv_iconst (v := (-1)) hx hb dX3_told_132 (by decide) ?_
    exact gw_iret F hS h dX3_told_133
  · have h := h.2 c3
    refine lv_iconst (v := (-1)) hx hb dX3_told_8 (by decide) ?_
    exact gw_iret F hS h dX3_told_9
set_option maxHeartbeats 4000000 in
set_option maxRecDepth 100000 in
theorem tM_told (l : Launch) (g : MG) (hO : MOK g) (σ : MS) (a1 : Int32) (a2 : Int32) (post : Int32 → MS → Prop) (h : wM_told post σ a1 a2) : Met l yX3_told (ws_ yX3_told cX3_told 3 (some .int)) rM_told (va_Pc [.ref (mad g 62), .int a1, .int a2] (gPre (MWd g) (mD g) (mcl g) (mty g) σ)) (va_Qi post (gB (MWd g)) (MA g)) 0 0 (MA g) := by
  refine Met.ofW (cc := cX3_told) (maxL := 3) (ret := (some .int)) (by decide) rfl ?_
  intro p e s m args below meth c s₁ B hml hv
  obtain ⟨rfl, hW, hK⟩ := hv
  have hts := atoms_spec (ws := (ws_ yX3_told cX3_told 3 (some .int))) B.pre
  have hts : ∀ w ∈ lw_all, w.before _ s = true := fun w h => hts w (List.mem_cons_of_mem _ h)
  have hl := lv_entry ([.ref (mad g 62), .int a1, .int a2]) (n := 3) (Nat.le_of_ble_eq_true rfl)
  rw [lg_entry_eq]
  generalize (lg_sl ([.ref (mad g 62), .int a1, .int a2]) ++ List.replicate (3 - (lg_sl ([.ref (mad g 62), .int a1, .int a2])).length) Slot.unset).toArray = ls at hl ⊢
  exact kM_told ⟨⟨B.exec, B.bytes, hml, findClass_of_methodNamed B.named, hts⟩, hK, B.returns, B.notSynchronized⟩ hO σ a1 a2 s.heap [] ls ⟨hW, va_S.rf⟩ hl h
def wM_party_L6 (post : Int32 → MS → Prop) : Nat → MS → Int32 → Int32 → Int32 → Prop
  | 0, _, _, _, _ => False
  | n + 1, σ, x2, x3, x4 => ((σ 18 0) ≤ x4 → post x3 σ) ∧ (¬ ((σ 18 0) ≤ x4) → (vp_in x4 16 ∧ ((((σ 20 x4.toNatClampNeg) = x2 → vp_in x4 16 ∧ vp_in x2 16)) ∧ ∀ v9 : Int32, v9 = (if (σ 20 x4.toNatClampNeg) = x2 then if (σ 21 x4.toNatClampNeg) = (σ 21 x2.toNatClampNeg) then (1 : Int32) <<< (x4 &&& 31) else 0 else 0) → (∀ x12 : Int32, x12 = x3 ||| v9 → ∀ x13 : Int32, x13 = x4 + 1 → wM_party_L6 post n σ x2 x12 x13))))
def wM_party (post : Int32 → MS → Prop) (σ : MS) (a1 : Int32) : Prop := (∀ x1 : Int32, x1 = (1 : Int32) <<< (a1 &&& 31) → ∃ n14, wM_party_L6 post n14 σ a1 x1 0)
abbrev rM_party : Room := { frames := 0, cells := 0, slots := 0, locals := 0 }
set_option maxHeartbeats 4000000 in
set_option maxRecDepth 100000 in
theorem kM_party_L6 {p : Program} {l : Launch} {e : Env} {s : State} {m : MethodId} {args : Array Value} {below : List Frame} {meth : Method} {c : Code} {g : MG} {post : Int32 → MS → Prop} (F : gFx p s m c meth args cX3_party 4 RX3 (some .int) (mD g) (mcl g) (mty g)) (hO : MOK g) : ∀ (n : Nat) (σ : MS) (x2 : Int32) (x3 : Int32) (x4 : Int32) (H : Heap) (locs : List Loc) (ls : Array Slot), gSt (MWd g) (MA g) s σ H locs → lv_has ls 4 [(0, .ref (mad g 62)), (1, .int x2), (2, .int x3), (3, .int x4)] → wM_party_L6 post n σ x2 x3 x4 → W p l e rM_party s m args below meth c H locs 0 0 (MQ below (va_Qi post (gB (MWd g)) (MA g)) args s 0 0 (MA g)) (F0 m 6 ls []) := by
  have hx := F.hx
  have hb := F.hb
  have hts := F.1.2.2.2.2
  have hown := F.1.2.2.2.1
  intro n
  induction n with
  | zero =>
    intro σ x2 x3 x4 H locs ls hS hl h
    exact False.elim h
  | succ n ih =>
    intro σ x2 x3 x4 H locs ls hS hl h
    rw [wM_party_L6] at h
    refine lv_iload_n hx hb dX3_party_6 rfl (lv_at hl 3 rfl) ?_
    refine lv_aload_n hx hb dX3_party_7 rfl (lv_at hl 0 rfl) ?_
    refine m_geti F hO hS 18 (by decide) rfl q1415 dX3_party_8 ?_
    refine lv_icmp_ge (tgt := 55) hx hb dX3_party_11 (by decide) (fun c5 => ?_) (fun c5 => ?_)
    · have h := h.1 c5
      refine lv_iload_n hx hb dX3_party_55 rfl (lv_at hl 2 rfl) ?_
      exact gw_iret F hS h dX3_party_56
    · have h := h.2 c5
      refine lv_iload_n hx hb dX3_party_14 rfl (lv_at hl 2 rfl) ?_
      refine lv_aload_n hx hb dX3_party_15 rfl (lv_at hl 0 rfl) ?_
      refine m_geta F hO hS 20 (by decide) rfl q1417 dX3_party_16 ?_
      refine lv_iload_n hx hb dX3_party_19 rfl (lv_at hl 3 rfl) ?_
      obtain ⟨b6, h⟩ := h
      refine m_iald F hS 20 16 rfl rfl b6 dX3_party_20 ?_
      refine lv_iload_n hx hb dX3_party_21 rfl (lv_at hl 1 rfl) ?_
      obtain ⟨b10, h⟩ := h
      refine gcut (P := ∀ (v9 : Int32) (H : Heap) (locs : List Loc) (ls : Array Slot), v9 = (if (σ 20 x4.toNatClampNeg) = x2 then if (σ 21 x4.toNatClampNeg) = (σ 21 x2.toNatClampNeg) then (1 : Int32) <<< (x4 &&& 31) else 0 else 0) → gSt (MWd g) (MA g) s σ H locs → lv_has ls 4 [(0, .ref (mad g 62)), (1, .int x2), (3, .int x4)] → W p l e rM_party s m args below meth c H locs 0 0 (MQ below (va_Qi post (gB (MWd g)) (MA g)) args s 0 0 (MA g)) (F0 m 47 ls [.int v9, .int x3])) (fun v9 H locs ls ev9 hS hl => ?_) (fun J11 => ?_)
      · have h := h v9 ev9
        refine lv_ior hx hb dX3_party_47 ?_
        refine lv_topi (fun x12 ex12 => ?_)
        have h := h x12 ex12
        refine lv_istore_n (lv' := [(2, .int x12), (0, .ref (mad g 62)), (1, .int x2), (3, .int x4)]) hx hb dX3_party_48 rfl hl (by decide) rfl (fun ls hl => ?_)
        obtain ⟨x13, ex13⟩ : ∃ y : Int32, y = x4 + 1 := ⟨_, rfl⟩
        have h := h x13 ex13
        refine lv_iinc (v := x13) (lv' := [(3, .int x13), (2, .int x12), (0, .ref (mad g 62)), (1, .int x2)]) hx hb dX3_party_49 hl (k := 3) rfl (by rw [ex13]; rfl) (by decide) rfl (fun ls hl => ?_)
        refine lv_goto (tgt := 6) hx hb dX3_party_52 (by decide) ?_
        exact ih σ x2 x12 x13 H locs ls hS (lv_sub hl [2, 3, 1, 0] rfl) h
      · refine lv_icmp_ne (tgt := 46) hx hb dX3_party_22 (by decide) (fun c7 => ?_) (fun c7 => ?_)
        · refine lv_iconst (v := 0) hx hb dX3_party_46 (by decide) ?_
          exact J11 _ H locs ls (by first | with_reducible rfl | ((try rw [if_neg c7]); done)) hS (lv_sub hl [0, 1, 3] rfl)
        · refine lv_aload_n hx hb dX3_party_25 rfl (lv_at hl 0 rfl) ?_
          refine m_geta F hO hS 21 (by decide) rfl q1418 dX3_party_26 ?_
          refine lv_iload_n hx hb dX3_party_29 rfl (lv_at hl 3 rfl) ?_
          refine m_iald F hS 21 17 rfl rfl ((b10 c7).1) dX3_party_30 ?_
          refine lv_aload_n hx hb dX3_party_31 rfl (lv_at hl 0 rfl) ?_
          refine m_geta F hO hS 21 (by decide) rfl q1418 dX3_party_32 ?_
          refine lv_iload_n hx hb dX3_party_35 rfl (lv_at hl 1 rfl) ?_
          refine m_iald F hS 21 17 rfl rfl ((b10 c7).2) dX3_party_36 ?_
          refine lv_icmp_ne (tgt := 46) hx hb dX3_party_37 (by decide) (fun c8 => ?_) (fun c8 => ?_)
          · refine lv_iconst (v := 0) hx hb dX3_party_46 (by decide) ?_
            exact J11 _ H locs ls (by first | with_reducible rfl | ((try rw [if_pos c7]); (try rw [if_neg c8]); done)) hS (lv_sub hl [0, 1, 3] rfl)
          · refine lv_iconst (v := 1) hx hb dX3_party_40 (by decide) ?_
            refine lv_iload_n hx hb dX3_party_41 rfl (lv_at hl 3 rfl) ?_
            refine lv_ishl hx hb dX3_party_42 ?_
            refine lv_goto (tgt := 47) hx hb dX3_party_43 (by decide) ?_
            exact J11 _ H locs ls (by first | with_reducible rfl | ((try rw [if_pos c7]); (try rw [if_pos c8]); done)) hS (lv_sub hl [0, 1, 3] rfl)
set_option maxHeartbeats 4000000 in
set_option maxRecDepth 100000 in
theorem kM_party {p : Program} {l : Launch} {e : Env} {s : State} {m : MethodId} {args : Array Value} {below : List Frame} {meth : Method} {c : Code} {g : MG} {post : Int32 → MS → Prop} (F : gFx p s m c meth args cX3_party 4 RX3 (some .int) (mD g) (mcl g) (mty g)) (hO : MOK g) (σ : MS) (a1 : Int32) (H : Heap) (locs : List Loc) (ls : Array Slot) (hS : gSt (MWd g) (MA g) s σ H locs) (hl : lv_has ls 4 [(0, .ref (mad g 62)), (1, .int a1)]) (h : wM_party post σ a1) : W p l e rM_party s m args below meth c H locs 0 0 (MQ below (va_Qi post (gB (MWd g)) (MA g)) args s 0 0 (MA g)) (F0 m 0 ls []) := by
  have hx := F.hx
  have hb := F.hb
  have hts := F.1.2.2.2.2
  have hown := F.1.2.2.2.1
  rw [wM_party] at h
  refine lv_iconst (v := 1) hx hb dX3_party_0 (by decide) ?_
  refine lv_iload_n hx hb dX3_party_1 rfl (lv_at hl 1 rfl) ?_
  refine lv_ishl hx hb dX3_party_2 ?_
  refine lv_topi (fun x1 ex1 => ?_)
  have h := h x1 ex1
  refine lv_istore_n (lv' := [(2, .int x1), (0, .ref (mad g 62)), (1, .int a1)]) hx hb dX3_party_3 rfl hl (by decide) rfl (fun ls hl => ?_)
  refine lv_iconst (v := 0) hx hb dX3_party_4 (by decide) ?_
  refine lv_istore_n (lv' := [(3, .int 0), (2, .int x1), (0, .ref (mad g 62)), (1, .int a1)]) hx hb dX3_party_5 rfl hl (by decide) rfl (fun ls hl => ?_)
  obtain ⟨n14, h⟩ := h
  exact (kM_party_L6 F hO n14) σ a1 x1 0 H locs ls hS (lv_sub hl [2, 3, 1, 0] rfl) h
set_option maxHeartbeats 4000000 in
set_option maxRecDepth 100000 in
theorem tM_party (l : Launch) (g : MG) (hO : MOK g) (σ : MS) (a1 : Int32) (post : Int32 → MS → Prop) (h : wM_party post σ a1) : Met l yX3_party (ws_ yX3_party cX3_party 4 (some .int)) rM_party (va_Pc [.ref (mad g 62), .int a1] (gPre (MWd g) (mD g) (mcl g) (mty g) σ)) (va_Qi post (gB (MWd g)) (MA g)) 0 0 (MA g) := by
  refine Met.ofW (cc := cX3_party) (maxL := 4) (ret := (some .int)) (by decide) rfl ?_
  intro p e s m args below meth c s₁ B hml hv
  obtain ⟨rfl, hW, hK⟩ := hv
  have hts := atoms_spec (ws := (ws_ yX3_party cX3_party 4 (some .int))) B.pre
  have hts : ∀ w ∈ lw_all, w.before _ s = true := fun w h => hts w (List.mem_cons_of_mem _ h)
  have hl := lv_entry ([.ref (mad g 62), .int a1]) (n := 4) (Nat.le_of_ble_eq_true rfl)
  rw [lg_entry_eq]
  generalize (lg_sl ([.ref (mad g 62), .int a1]) ++ List.replicate (4 - (lg_sl ([.ref (mad g 62), .int a1])).length) Slot.unset).toArray = ls at hl ⊢
  exact kM_party ⟨⟨B.exec, B.bytes, hml, findClass_of_methodNamed B.named, hts⟩, hK, B.returns, B.notSynchronized⟩ hO σ a1 s.heap [] ls ⟨hW, va_S.rf⟩ hl h
def wM_many_L4 (post : Int32 → MS → Prop) : Nat → MS → Int32 → Int32 → Int32 → Prop
  | 0, _, _, _, _ => False
  | n + 1, σ, x1, x2, x3 => (16 ≤ x3 → post x2 σ) ∧ (¬ (16 ≤ x3) → (∀ x5 : Int32, x5 = x2 + ((x1 >>> (x3 &&& 31)) &&& 1) → ∀ x6 : Int32, x6 = x3 + 1 → wM_many_L4 post n σ x1 x5 x6))
def wM_many (post : Int32 → MS → Prop) (σ : MS) (a0 : Int32) : Prop := ∃ n7, wM_many_L4 post n7 σ a0 0 0
abbrev rM_many : Room := { frames := 0, cells := 0, slots := 0, locals := 0 }
set_option maxHeartbeats 4000000 in
set_option maxRecDepth 100000 in
theorem kM_many_L4 {p : Program} {l : Launch} {e : Env} {s : State} {m : MethodId} {args : Array Value} {below : List Frame} {meth : Method} {c : Code} {g : MG} {post : Int32 → MS → Prop} (F : gFx p s m c meth args cX3_many 3 RX3 (some .int) (mD g) (mcl g) (mty g)) (hO : MOK g) : ∀ (n : Nat) (σ : MS) (x1 : Int32) (x2 : Int32) (x3 : Int32) (H : Heap) (locs : List Loc) (ls : Array Slot), gSt (MWd g) (MA g) s σ H locs → lv_has ls 3 [(0, .int x1), (1, .int x2), (2, .int x3)] → wM_many_L4 post n σ x1 x2 x3 → W p l e rM_many s m args below meth c H locs 0 0 (MQ below (va_Qi post (gB (MWd g)) (MA g)) args s 0 0 (MA g)) (F0 m 4 ls []) := by
  have hx := F.hx
  have hb := F.hb
  have hts := F.1.2.2.2.2
  have hown := F.1.2.2.2.1
  intro n
  induction n with
  | zero =>
    intro σ x1 x2 x3 H locs ls hS hl h
    exact False.elim h
  | succ n ih =>
    intro σ x1 x2 x3 H locs ls hS hl h
    rw [wM_many_L4] at h
    refine lv_iload_n hx hb dX3_many_4 rfl (lv_at hl 2 rfl) ?_
    refine lv_bipush (v := 16) hx hb dX3_many_5 (by decide) ?_
    refine lv_icmp_ge (tgt := 24) hx hb dX3_many_7 (by decide) (fun c4 => ?_) (fun c4 => ?_)
    · have h := h.1 c4
      refine lv_iload_n hx hb dX3_many_24 rfl (lv_at hl 1 rfl) ?_
      exact gw_iret F hS h dX3_many_25
    · have h := h.2 c4
      refine lv_iload_n hx hb dX3_many_10 rfl (lv_at hl 1 rfl) ?_
      refine lv_iload_n hx hb dX3_many_11 rfl (lv_at hl 0 rfl) ?_
      refine lv_iload_n hx hb dX3_many_12 rfl (lv_at hl 2 rfl) ?_
      refine lv_ishr hx hb dX3_many_13 ?_
      refine lv_iconst (v := 1) hx hb dX3_many_14 (by decide) ?_
      refine lv_iand hx hb dX3_many_15 ?_
      refine lv_iadd hx hb dX3_many_16 ?_
      refine lv_topi (fun x5 ex5 => ?_)
      have h := h x5 ex5
      refine lv_istore_n (lv' := [(1, .int x5), (0, .int x1), (2, .int x3)]) hx hb dX3_many_17 rfl hl (by decide) rfl (fun ls hl => ?_)
      obtain ⟨x6, ex6⟩ : ∃ y : Int32, y = x3 + 1 := ⟨_, rfl⟩
      have h := h x6 ex6
      refine lv_iinc (v := x6) (lv' := [(2, .int x6), (1, .int x5), (0, .int x1)]) hx hb dX3_many_18 hl (k := 2) rfl (by rw [ex6]; rfl) (by decide) rfl (fun ls hl => ?_)
      refine lv_goto (tgt := 4) hx hb dX3_many_21 (by decide) ?_
      exact ih σ x1 x5 x6 H locs ls hS (lv_sub hl [2, 1, 0] rfl) h
set_option maxHeartbeats 4000000 in
set_option maxRecDepth 100000 in
theorem kM_many {p : Program} {l : Launch} {e : Env} {s : State} {m : MethodId} {args : Array Value} {below : List Frame} {meth : Method} {c : Code} {g : MG} {post : Int32 → MS → Prop} (F : gFx p s m c meth args cX3_many 3 RX3 (some .int) (mD g) (mcl g) (mty g)) (hO : MOK g) (σ : MS) (a0 : Int32) (H : Heap) (locs : List Loc) (ls : Array Slot) (hS : gSt (MWd g) (MA g) s σ H locs) (hl : lv_has ls 3 [(0, .int a0)]) (h : wM_many post σ a0) : W p l e rM_many s m args below meth c H locs 0 0 (MQ below (va_Qi post (gB (MWd g)) (MA g)) args s 0 0 (MA g)) (F0 m 0 ls []) := by
  have hx := F.hx
  have hb := F.hb
  have hts := F.1.2.2.2.2
  have hown := F.1.2.2.2.1
  rw [wM_many] at h
  refine lv_iconst (v := 0) hx hb dX3_many_0 (by decide) ?_
  refine lv_istore_n (lv' := [(1, .int 0), (0, .int a0)]) hx hb dX3_many_1 rfl hl (by decide) rfl (fun ls hl => ?_)
  refine lv_iconst (v := 0) hx hb dX3_many_2 (by decide) ?_
  refine lv_istore_n (lv' := [(2, .int 0), (1, .int 0), (0, .int a0)]) hx hb dX3_many_3 rfl hl (by decide) rfl (fun ls hl => ?_)
  obtain ⟨n7, h⟩ := h
  exact (kM_many_L4 F hO n7) σ a0 0 0 H locs ls hS (lv_sub hl [2, 1, 0] rfl) h
set_option maxHeartbeats 4000000 in
set_option maxRecDepth 100000 in
theorem tM_many (l : Launch) (g : MG) (hO : MOK g) (σ : MS) (a0 : Int32) (post : Int32 → MS → Prop) (h : wM_many post σ a0) : Met l yX3_many (ws_ yX3_many cX3_many 3 (some .int)) rM_many (va_Pc [.int a0] (gPre (MWd g) (mD g) (mcl g) (mty g) σ)) (va_Qi post (gB (MWd g)) (MA g)) 0 0 (MA g) := by
  refine Met.ofW (cc := cX3_many) (maxL := 3) (ret := (some .int)) (by decide) rfl ?_
  intro p e s m args below meth c s₁ B hml hv
  obtain ⟨rfl, hW, hK⟩ := hv
  have hts := atoms_spec (ws := (ws_ yX3_many cX3_many 3 (some .int))) B.pre
  have hts : ∀ w ∈ lw_all, w.before _ s = true := fun w h => hts w (List.mem_cons_of_mem _ h)
  have hl := lv_entry ([.int a0]) (n := 3) (Nat.le_of_ble_eq_true rfl)
  rw [lg_entry_eq]
  generalize (lg_sl ([.int a0]) ++ List.replicate (3 - (lg_sl ([.int a0])).length) Slot.unset).toArray = ls at hl ⊢
  exact kM_many ⟨⟨B.exec, B.bytes, hml, findClass_of_methodNamed B.named, hts⟩, hK, B.returns, B.notSynchronized⟩ hO σ a0 s.heap [] ls ⟨hW, va_S.rf⟩ hl h
def wM_slow_L4 (post : Int32 → MS → Prop) : Nat → MS → Int32 → Int32 → Int32 → Prop
  | 0, _, _, _, _ => False
  | n + 1, σ, x1, x2, x3 => ((σ 18 0) ≤ x3 → post x2 σ) ∧ (¬ ((σ 18 0) ≤ x3) → (x3 = x1 → (∀ x6 : Int32, x6 = x2 + 0 → ∀ x7 : Int32, x7 = x3 + 1 → wM_slow_L4 post n σ x1 x6 x7)) ∧ (¬ (x3 = x1) → wM_party (fun r9 s8 => (((((r9 >>> (x3 &&& 31)) &&& 1) = 1 → vp_in x3 16)) ∧ ∀ v12 : Int32, v12 = (if ((r9 >>> (x3 &&& 31)) &&& 1) = 1 then if 4 ≤ (s8 19 x3.toNatClampNeg) then 0 else 1 else 0) → (∀ x15 : Int32, x15 = x2 + v12 → ∀ x16 : Int32, x16 = x3 + 1 → wM_slow_L4 post n s8 x1 x15 x16))) σ x1))
def wM_slow (post : Int32 → MS → Prop) (σ : MS) (a1 : Int32) : Prop := ∃ n17, wM_slow_L4 post n17 σ a1 0 0
abbrev rM_slow : Room := { frames := 1, cells := 0, slots := 0, locals := 23 }
set_option maxHeartbeats 4000000 in
set_option maxRecDepth 100000 in
theorem kM_slow_L4 {p : Program} {l : Launch} {e : Env} {s : State} {m : MethodId} {args : Array Value} {below : List Frame} {meth : Method} {c : Code} {g : MG} {post : Int32 → MS → Prop} (F : gFx p s m c meth args cX3_slow 4 RX3 (some .int) (mD g) (mcl g) (mty g)) (hO : MOK g) : ∀ (n : Nat) (σ : MS) (x1 : Int32) (x2 : Int32) (x3 : Int32) (H : Heap) (locs : List Loc) (ls : Array Slot), gSt (MWd g) (MA g) s σ H locs → lv_has ls 4 [(0, .ref (mad g 62)), (1, .int x1), (2, .int x2), (3, .int x3)] → wM_slow_L4 post n σ x1 x2 x3 → W p l e rM_slow s m args below meth c H locs 0 0 (MQ below (va_Qi post (gB (MWd g)) (MA g)) args s 0 0 (MA g)) (F0 m 4 ls []) := by
  have hx := F.hx
  have hb := F.hb
  have hts := F.1.2.2.2.2
  have hown := F.1.2.2.2.1
  intro n
  induction n with
  | zero =>
    intro σ x1 x2 x3 H locs ls hS hl h
    exact False.elim h
  | succ n ih =>
    intro σ x1 x2 x3 H locs ls hS hl h
    rw [wM_slow_L4] at h
    refine lv_iload_n hx hb dX3_slow_4 rfl (lv_at hl 3 rfl) ?_
    refine lv_aload_n hx hb dX3_slow_5 rfl (lv_at hl 0 rfl) ?_
    refine m_geti F hO hS 18 (by decide) rfl q1415 dX3_slow_6 ?_
    refine lv_icmp_ge (tgt := 54) hx hb dX3_slow_9 (by decide) (fun c4 => ?_) (fun c4 => ?_)
    · have h := h.1 c4
      refine lv_iload_n hx hb dX3_slow_54 rfl (lv_at hl 2 rfl) ?_
      exact gw_iret F hS h dX3_slow_55
    · have h := h.2 c4
      refine lv_iload_n hx hb dX3_slow_12 rfl (lv_at hl 2 rfl) ?_
      refine lv_iload_n hx hb dX3_slow_13 rfl (lv_at hl 3 rfl) ?_
      refine lv_iload_n hx hb dX3_slow_14 rfl (lv_at hl 1 rfl) ?_
      refine lv_icmp_eq (tgt := 45) hx hb dX3_slow_15 (by decide) (fun c5 => ?_) (fun c5 => ?_)
      · have h := h.1 c5
        refine lv_iconst (v := 0) hx hb dX3_slow_45 (by decide) ?_
        refine lv_iadd hx hb dX3_slow_46 ?_
        refine lv_topi (fun x6 ex6 => ?_)
        have h := h x6 ex6
        refine lv_istore_n (lv' := [(2, .int x6), (0, .ref (mad g 62)), (1, .int x1), (3, .int x3)]) hx hb dX3_slow_47 rfl hl (by decide) rfl (fun ls hl => ?_)
        obtain ⟨x7, ex7⟩ : ∃ y : Int32, y = x3 + 1 := ⟨_, rfl⟩
        have h := h x7 ex7
        refine lv_iinc (v := x7) (lv' := [(3, .int x7), (2, .int x6), (0, .ref (mad g 62)), (1, .int x1)]) hx hb dX3_slow_48 hl (k := 3) rfl (by rw [ex7]; rfl) (by decide) rfl (fun ls hl => ?_)
        refine lv_goto (tgt := 4) hx hb dX3_slow_51 (by decide) ?_
        exact ih σ x1 x6 x7 H locs ls hS (lv_sub hl [2, 3, 1, 0] rfl) h
      · have h := h.2 c5
        refine lv_aload_n hx hb dX3_slow_18 rfl (lv_at hl 0 rfl) ?_
        refine lv_iload_n hx hb dX3_slow_19 rfl (lv_at hl 1 rfl) ?_
        refine gw_callVi (As := [.int x1]) (rest := [.int x2]) F hS (tM_party l g hO σ x1 _ h) (cwV 1 hts (lw_V q1747 q1749 qs57 q90 q1750) rfl rfl rfl (by decide +kernel) ⟨Nat.le_of_ble_eq_true rfl, Nat.le_of_ble_eq_true rfl⟩) (m_rec F hO hS) rfl hl.1 rfl (Nat.le_of_ble_eq_true rfl) dX3_slow_20 ⟨Nat.le_refl 0, Nat.le_refl 0⟩ (fun r9 s8 H locs h hS => ?_)
        refine lv_iload_n hx hb dX3_slow_23 rfl (lv_at hl 3 rfl) ?_
        refine lv_ishr hx hb dX3_slow_24 ?_
        refine lv_iconst (v := 1) hx hb dX3_slow_25 (by decide) ?_
        refine lv_iand hx hb dX3_slow_26 ?_
        refine lv_iconst (v := 1) hx hb dX3_slow_27 (by decide) ?_
        obtain ⟨b13, h⟩ := h
        refine gcut (P := ∀ (v12 : Int32) (H : Heap) (locs : List Loc) (ls : Array Slot), v12 = (if ((r9 >>> (x3 &&& 31)) &&& 1) = 1 then if 4 ≤ (s8 19 x3.toNatClampNeg) then 0 else 1 else 0) → gSt (MWd g) (MA g) s s8 H locs → lv_has ls 4 [(0, .ref (mad g 62)), (1, .int x1), (3, .int x3)] → W p l e rM_slow s m args below meth c H locs 0 0 (MQ below (va_Qi post (gB (MWd g)) (MA g)) args s 0 0 (MA g)) (F0 m 46 ls [.int v12, .int x2])) (fun v12 H locs ls ev12 hS hl => ?_) (fun J14 => ?_)
        · have h := h v12 ev12
          refine lv_iadd hx hb dX3_slow_46 ?_
          refine lv_topi (fun x15 ex15 => ?_)
          have h := h x15 ex15
          refine lv_istore_n (lv' := [(2, .int x15), (0, .ref (mad g 62)), (1, .int x1), (3, .int x3)]) hx hb dX3_slow_47 rfl hl (by decide) rfl (fun ls hl => ?_)
          obtain ⟨x16, ex16⟩ : ∃ y : Int32, y = x3 + 1 := ⟨_, rfl⟩
          have h := h x16 ex16
          refine lv_iinc (v := x16) (lv' := [(3, .int x16), (2, .int x15), (0, .ref (mad g 62)), (1, .int x1)]) hx hb dX3_slow_48 hl (k := 3) rfl (by rw [ex16]; rfl) (by decide) rfl (fun ls hl => ?_)
          refine lv_goto (tgt := 4) hx hb dX3_slow_51 (by decide) ?_
          exact ih s8 x1 x15 x16 H locs ls hS (lv_sub hl [2, 3, 1, 0] rfl) h
        · refine lv_icmp_ne (tgt := 45) hx hb dX3_slow_28 (by decide) (fun c10 => ?_) (fun c10 => ?_)
          · refine lv_iconst (v := 0) hx hb dX3_slow_45 (by decide) ?_
            exact J14 _ H locs ls (by first | with_reducible rfl | ((try rw [if_neg c10]); done)) hS (lv_sub hl [0, 1, 3] rfl)
          · refine lv_aload_n hx hb dX3_slow_31 rfl (lv_at hl 0 rfl) ?_
            refine m_geta F hO hS 19 (by decide) rfl q1416 dX3_slow_32 ?_
            refine lv_iload_n hx hb dX3_slow_35 rfl (lv_at hl 3 rfl) ?_
            refine m_iald F hS 19 15 rfl rfl ((b13 c10)) dX3_slow_36 ?_
            refine lv_iconst (v := 4) hx hb dX3_slow_37 (by decide) ?_
            refine lv_icmp_ge (tgt := 45) hx hb dX3_slow_38 (by decide) (fun c11 => ?_) (fun c11 => ?_)
            · refine lv_iconst (v := 0) hx hb dX3_slow_45 (by decide) ?_
              exact J14 _ H locs ls (by first | with_reducible rfl | ((try rw [if_pos c10]); (try rw [if_pos c11]); done)) hS (lv_sub hl [0, 1, 3] rfl)
            · refine lv_iconst (v := 1) hx hb dX3_slow_41 (by decide) ?_
              refine lv_goto (tgt := 46) hx hb dX3_slow_42 (by decide) ?_
              exact J14 _ H locs ls (by first | with_reducible rfl | ((try rw [if_pos c10]); (try rw [if_neg c11]); done)) hS (lv_sub hl [0, 1, 3] rfl)
set_option maxHeartbeats 4000000 in
set_option maxRecDepth 100000 in
theorem kM_slow {p : Program} {l : Launch} {e : Env} {s : State} {m : MethodId} {args : Array Value} {below : List Frame} {meth : Method} {c : Code} {g : MG} {post : Int32 → MS → Prop} (F : gFx p s m c meth args cX3_slow 4 RX3 (some .int) (mD g) (mcl g) (mty g)) (hO : MOK g) (σ : MS) (a1 : Int32) (H : Heap) (locs : List Loc) (ls : Array Slot) (hS : gSt (MWd g) (MA g) s σ H locs) (hl : lv_has ls 4 [(0, .ref (mad g 62)), (1, .int a1)]) (h : wM_slow post σ a1) : W p l e rM_slow s m args below meth c H locs 0 0 (MQ below (va_Qi post (gB (MWd g)) (MA g)) args s 0 0 (MA g)) (F0 m 0 ls []) := by
  have hx := F.hx
  have hb := F.hb
  have hts := F.1.2.2.2.2
  have hown := F.1.2.2.2.1
  rw [wM_slow] at h
  refine lv_iconst (v := 0) hx hb dX3_slow_0 (by decide) ?_
  refine lv_istore_n (lv' := [(2, .int 0), (0, .ref (mad g 62)), (1, .int a1)]) hx hb dX3_slow_1 rfl hl (by decide) rfl (fun ls hl => ?_)
  refine lv_iconst (v := 0) hx hb dX3_slow_2 (by decide) ?_
  refine lv_istore_n (lv' := [(3, .int 0), (2, .int 0), (0, .ref (mad g 62)), (1, .int a1)]) hx hb dX3_slow_3 rfl hl (by decide) rfl (fun ls hl => ?_)
  obtain ⟨n17, h⟩ := h
  exact (kM_slow_L4 F hO n17) σ a1 0 0 H locs ls hS (lv_sub hl [2, 3, 1, 0] rfl) h
set_option maxHeartbeats 4000000 in
set_option maxRecDepth 100000 in
theorem tM_slow (l : Launch) (g : MG) (hO : MOK g) (σ : MS) (a1 : Int32) (post : Int32 → MS → Prop) (h : wM_slow post σ a1) : Met l yX3_slow (ws_ yX3_slow cX3_slow 4 (some .int)) rM_slow (va_Pc [.ref (mad g 62), .int a1] (gPre (MWd g) (mD g) (mcl g) (mty g) σ)) (va_Qi post (gB (MWd g)) (MA g)) 0 0 (MA g) := by
  refine Met.ofW (cc := cX3_slow) (maxL := 4) (ret := (some .int)) (by decide) rfl ?_
  intro p e s m args below meth c s₁ B hml hv
  obtain ⟨rfl, hW, hK⟩ := hv
  have hts := atoms_spec (ws := (ws_ yX3_slow cX3_slow 4 (some .int))) B.pre
  have hts : ∀ w ∈ lw_all, w.before _ s = true := fun w h => hts w (List.mem_cons_of_mem _ h)
  have hl := lv_entry ([.ref (mad g 62), .int a1]) (n := 4) (Nat.le_of_ble_eq_true rfl)
  rw [lg_entry_eq]
  generalize (lg_sl ([.ref (mad g 62), .int a1]) ++ List.replicate (4 - (lg_sl ([.ref (mad g 62), .int a1])).length) Slot.unset).toArray = ls at hl ⊢
  exact kM_slow ⟨⟨B.exec, B.bytes, hml, findClass_of_methodNamed B.named, hts⟩, hK, B.returns, B.notSynchronized⟩ hO σ a1 s.heap [] ls ⟨hW, va_S.rf⟩ hl h
def wM_arrives (post : Int32 → MS → Prop) (σ : MS) (a1 : Int32) (a2 : Int32) : Prop := (vp_in a1 16 ∧ ∀ x2 : Int32, x2 = σ 21 a1.toNatClampNeg → vp_in (((16 : Int32) * x2) + a2) 256 ∧ ∀ x4 : Int32, x4 = σ 11 (((16 : Int32) * x2) + a2).toNatClampNeg → (x4 = 0 → post (-4) σ) ∧ (¬ (x4 = 0) → wM_bearsAt (fun r7 s6 => (r7 = 0 → post (-4) s6) ∧ (¬ (r7 = 0) → wM_bearsAt (fun r10 s9 => (¬ (r10 = 0) → wM_slow (fun r13 s12 => post (((s9 0 0) + x4) + r13) s12) s9 a1) ∧ (r10 = 0 → post (-4) s9)) s6 a2 (s6 0 0))) σ x2 (σ 0 0)))
abbrev rM_arrives : Room := { frames := 2, cells := 0, slots := 0, locals := 46 }
set_option maxHeartbeats 4000000 in
set_option maxRecDepth 100000 in
theorem kM_arrives {p : Program} {l : Launch} {e : Env} {s : State} {m : MethodId} {args : Array Value} {below : List Frame} {meth : Method} {c : Code} {g : MG} {post : Int32 → MS → Prop} (F : gFx p s m c meth args cX3_arrives 5 RX3 (some .int) (mD g) (mcl g) (mty g)) (hO : MOK g) (σ : MS) (a1 : Int32) (a2 : Int32) (H : Heap) (locs : List Loc) (ls : Array Slot) (hS : gSt (MWd g) (MA g) s σ H locs) (hl : lv_has ls 5 [(0, .ref (mad g 62)), (1, .int a1), (2, .int a2)]) (h : wM_arrives post σ a1 a2) : W p l e rM_arrives s m args below meth c H locs 0 0 (MQ below (va_Qi post (gB (MWd g)) (MA g)) args s 0 0 (MA g)) (F0 m 0 ls []) := by
  have hx := F.hx
  have hb := F.hb
  have hts := F.1.2.2.2.2
  have hown := F.1.2.2.2.1
  rw [wM_arrives] at h
  refine lv_aload_n hx hb dX3_arrives_0 rfl (lv_at hl 0 rfl) ?_
  refine m_geta F hO hS 21 (by decide) rfl q1418 dX3_arrives_1 ?_
  refine lv_iload_n hx hb dX3_arrives_4 rfl (lv_at hl 1 rfl) ?_
  obtain ⟨b1, h⟩ := h
  refine m_iald F hS 21 17 rfl rfl b1 dX3_arrives_5 ?_
  refine lv_topi (fun x2 ex2 => ?_)
  have h := h x2 ex2
  refine lv_istore_n (lv' := [(3, .int x2), (0, .ref (mad g 62)), (1, .int a1), (2, .int a2)]) hx hb dX3_arrives_6 rfl hl (by decide) rfl (fun ls hl => ?_)
  refine lv_aload_n hx hb dX3_arrives_7 rfl (lv_at hl 1 rfl) ?_
  refine m_geta F hO hS 11 (by decide) rfl q1408 dX3_arrives_8 ?_
  refine lv_bipush (v := 16) hx hb dX3_arrives_11 (by decide) ?_
  refine lv_iload_n hx hb dX3_arrives_13 rfl (lv_at hl 0 rfl) ?_
  refine lv_imul hx hb dX3_arrives_14 ?_
  refine lv_iload_n hx hb dX3_arrives_15 rfl (lv_at hl 3 rfl) ?_
  refine lv_iadd hx hb dX3_arrives_16 ?_
  obtain ⟨b3, h⟩ := h
  refine m_iald F hS 11 9 rfl rfl b3 dX3_arrives_17 ?_
  refine lv_topi (fun x4 ex4 => ?_)
  have h := h x4 ex4
  refine lv_istore (lv' := [(4, .int x4), (3, .int x2), (0, .ref (mad g 62)), (1, .int a1), (2, .int a2)]) hx hb dX3_arrives_18 hl (by decide) rfl (fun ls hl => ?_)
  refine lv_iload hx hb dX3_arrives_20 (lv_at hl 0 rfl) ?_
  refine lv_if_eq (tgt := 49) hx hb dX3_arrives_22 (by decide) (fun c5 => ?_) (fun c5 => ?_)
  · have h := h.1 c5
    refine lv_bipush (v := (-4)) hx hb dX3_arrives_49 (by decide) ?_
    refine lv_goto (tgt := 67) hx hb dX3_arrives_51 (by decide) ?_
    exact gw_iret F hS h dX3_arrives_67
  · have h := h.2 c5
    refine lv_aload_n hx hb dX3_arrives_25 rfl (lv_at hl 2 rfl) ?_
    refine lv_iload_n hx hb dX3_arrives_26 rfl (lv_at hl 1 rfl) ?_
    refine lv_aload_n hx hb dX3_arrives_27 rfl (lv_at hl 2 rfl) ?_
    refine m_geti F hO hS 0 (by decide) rfl q1397 dX3_arrives_28 ?_
    refine gw_callVi (As := [.int x2, .int (σ 0 0)]) (rest := []) F hS (tM_bearsAt l g hO σ x2 (σ 0 0) _ h) (cwV 2 hts (lw_V q1670 q1672 qs45 q90 q1673) rfl rfl rfl (by decide +kernel) ⟨Nat.le_of_ble_eq_true rfl, Nat.le_of_ble_eq_true rfl⟩) (m_rec F hO hS) rfl hl.1 rfl (Nat.le_of_ble_eq_true rfl) dX3_arrives_31 ⟨Nat.le_refl 0, Nat.le_refl 0⟩ (fun r7 s6 H locs h hS => ?_)
    obtain ⟨zr7, h⟩ := h
    refine lv_if_eq (tgt := 49) hx hb dX3_arrives_34 (by decide) (fun c8 => ?_) (fun c8 => ?_)
    · have h := h.1 c8
      refine lv_bipush (v := (-4)) hx hb dX3_arrives_49 (by decide) ?_
      refine lv_goto (tgt := 67) hx hb dX3_arrives_51 (by decide) ?_
      exact gw_iret F hS h dX3_arrives_67
    · have h := h.2 c8
      refine lv_aload_n hx hb dX3_arrives_37 rfl (lv_at hl 2 rfl) ?_
      refine lv_iload_n hx hb dX3_arrives_38 rfl (lv_at hl 4 rfl) ?_
      refine lv_aload_n hx hb dX3_arrives_39 rfl (lv_at hl 2 rfl) ?_
      refine m_geti F hO hS 0 (by decide) rfl q1397 dX3_arrives_40 ?_
      refine gw_callVi (As := [.int a2, .int (s6 0 0)]) (rest := []) F hS (tM_bearsAt l g hO s6 a2 (s6 0 0) _ h) (cwV 2 hts (lw_V q1670 q1672 qs45 q90 q1673) rfl rfl rfl (by decide +kernel) ⟨Nat.le_of_ble_eq_true rfl, Nat.le_of_ble_eq_true rfl⟩) (m_rec F hO hS) rfl hl.1 rfl (Nat.le_of_ble_eq_true rfl) dX3_arrives_43 ⟨Nat.le_refl 0, Nat.le_refl 0⟩ (fun r10 s9 H locs h hS => ?_)
      obtain ⟨zr10, h⟩ := h
      refine lv_if_ne (tgt := 54) hx hb dX3_arrives_46 (by decide) (fun c11 => ?_) (fun c11 => ?_)
      · have h := h.1 c11
        refine lv_aload_n hx hb dX3_arrives_54 rfl (lv_at hl 2 rfl) ?_
        refine m_geti F hO hS 0 (by decide) rfl q1397 dX3_arrives_55 ?_
        refine lv_iload hx hb dX3_arrives_58 (lv_at hl 0 rfl) ?_
        refine lv_iadd hx hb dX3_arrives_60 ?_
        refine lv_aload_n hx hb dX3_arrives_61 rfl (lv_at hl 2 rfl) ?_
        refine lv_iload_n hx hb dX3_arrives_62 rfl (lv_at hl 3 rfl) ?_
        refine gw_callVi (As := [.int a1]) (rest := [.int ((s9 0 0) + x4)]) F hS (tM_slow l g hO s9 a1 _ h) (cwV 1 hts (lw_V q1743 q1745 qs56 q90 q1746) rfl rfl rfl (by decide +kernel) ⟨Nat.le_of_ble_eq_true rfl, Nat.le_of_ble_eq_true rfl⟩) (m_rec F hO hS) rfl hl.1 rfl (Nat.le_of_ble_eq_true rfl) dX3_arrives_63 ⟨Nat.le_refl 0, Nat.le_refl 0⟩ (fun r13 s12 H locs h hS => ?_)
        refine lv_iadd hx hb dX3_arrives_66 ?_
        exact gw_iret F hS h dX3_arrives_67
      · have h := h.2 c11
        refine lv_bipush (v := (-4)) hx hb dX3_arrives_49 (by decide) ?_
        refine lv_goto (tgt := 67) hx hb dX3_arrives_51 (by decide) ?_
        exact gw_iret F hS h dX3_arrives_67
set_option maxHeartbeats 4000000 in
set_option maxRecDepth 100000 in
theorem tM_arrives (l : Launch) (g : MG) (hO : MOK g) (σ : MS) (a1 : Int32) (a2 : Int32) (post : Int32 → MS → Prop) (h : wM_arrives post σ a1 a2) : Met l yX3_arrives (ws_ yX3_arrives cX3_arrives 5 (some .int)) rM_arrives (va_Pc [.ref (mad g 62), .int a1, .int a2] (gPre (MWd g) (mD g) (mcl g) (mty g) σ)) (va_Qi post (gB (MWd g)) (MA g)) 0 0 (MA g) := by
  refine Met.ofW (cc := cX3_arrives) (maxL := 5) (ret := (some .int)) (by decide) rfl ?_
  intro p e s m args below meth c s₁ B hml hv
  obtain ⟨rfl, hW, hK⟩ := hv
  have hts := atoms_spec (ws := (ws_ yX3_arrives cX3_arrives 5 (some .int))) B.pre
  have hts : ∀ w ∈ lw_all, w.before _ s = true := fun w h => hts w (List.mem_cons_of_mem _ h)
  have hl := lv_entry ([.ref (mad g 62), .int a1, .int a2]) (n := 5) (Nat.le_of_ble_eq_true rfl)
  rw [lg_entry_eq]
  generalize (lg_sl ([.ref (mad g 62), .int a1, .int a2]) ++ List.replicate (5 - (lg_sl ([.ref (mad g 62), .int a1, .int a2])).length) Slot.unset).toArray = ls at hl ⊢
  exact kM_arrives ⟨⟨B.exec, B.bytes, hml, findClass_of_methodNamed B.named, hts⟩, hK, B.returns, B.notSynchronized⟩ hO σ a1 a2 s.heap [] ls ⟨hW, va_S.rf⟩ hl h
def wM_go_L85 (post : Int32 → MS → Prop) : Nat → MS → Int32 → Int32 → Int32 → Int32 → Int32 → Prop
  | 0, _, _, _, _, _, _ => False
  | n + 1, σ, x24, x25, x26, x27, x28 => ((σ 18 0) ≤ x28 → post x25 σ) ∧ (¬ ((σ 18 0) ≤ x28) → (((((x26 >>> (x28 &&& 31)) &&& 1) = 1 → vp_in x28 16 ∧ vp_in x28 16 ∧ vp_in x28 16 ∧ vp_in x28 16 ∧ vp_in x28 16 ∧ vp_in x28 16)) ∧ ∀ s37 : MS, s37 = (if ((x26 >>> (x28 &&& 31)) &&& 1) = 1 then (up2 ((up2 ((up2 ((up2 ((up2 ((up2 σ 21 x28.toNatClampNeg ((100 : Int32) + x24))) 22 x28.toNatClampNeg x25)) 23 x28.toNatClampNeg 0)) 24 x28.toNatClampNeg x27)) 25 x28.toNatClampNeg x24)) 26 x28.toNatClampNeg (((up2 ((up2 ((up2 ((up2 ((up2 σ 21 x28.toNatClampNeg ((100 : Int32) + x24))) 22 x28.toNatClampNeg x25)) 23 x28.toNatClampNeg 0)) 24 x28.toNatClampNeg x27)) 25 x28.toNatClampNeg x24)) 0 0)) else σ) → (∀ x40 : Int32, x40 = x28 + 1 → wM_go_L85 post n s37 x24 x25 x26 x27 x40)))
def wM_go (post : Int32 → MS → Prop) (σ : MS) (a1 : Int32) (a2 : Int32) : Prop := wM_isPerson (fun r2 s1 => (r2 = 0 → post (-1) s1) ∧ (¬ (r2 = 0) → wM_isPlace (fun r5 s4 => (r5 = 0 → post (-1) s4) ∧ (¬ (r5 = 0) → (vp_in a1 16 ∧ ((s4 20 a1.toNatClampNeg) < 0 → wM_isAt (fun r10 s9 => (¬ (r10 = 0) → wM_arrives (fun r13 s12 => wM_party (fun r15 s14 => (r13 = (-4) → post (-2) s14) ∧ (¬ (r13 = (-4)) → wM_many (fun r18 s17 => wM_hasBeds (fun r20 s19 => (¬ (r20 = 0) → (vp_in a1 16 ∧ ∀ x23 : Int32, x23 = s19 21 a1.toNatClampNeg → ∃ n41, wM_go_L85 post n41 s19 a2 r13 r15 x23 0)) ∧ (r20 = 0 → post (-2) s19)) s17 a2 r18) s14 r15)) s12 a1) s9 a1 a2) ∧ (r10 = 0 → post (-2) s9)) s4 a1) ∧ (¬ ((s4 20 a1.toNatClampNeg) < 0) → post (-1) s4)))) s1 a2)) σ a1
abbrev rM_go : Room := { frames := 3, cells := 0, slots := 0, locals := 70 }
set_option maxHeartbeats 4000000 in
set_option maxRecDepth 100000 in
theorem kM_go_L85 {p : Program} {l : Launch} {e : Env} {s : State} {m : MethodId} {args : Array Value} {below : List Frame} {meth : Method} {c : Code} {g : MG} {post : Int32 → MS → Prop} (F : gFx p s m c meth args cX3_go 7 RX3 (some .int) (mD g) (mcl g) (mty g)) (hO : MOK g) : ∀ (n : Nat) (σ : MS) (x24 : Int32) (x25 : Int32) (x26 : Int32) (x27 : Int32) (x28 : Int32) (H : Heap) (locs : List Loc) (ls : Array Slot), gSt (MWd g) (MA g) s σ H locs → lv_has ls 7 [(0, .ref (mad g 62)), (2, .int x24), (3, .int x25), (4, .int x26), (5, .int x27), (6, .int x28)] → wM_go_L85 post n σ x24 x25 x26 x27 x28 → W p l e rM_go s m args below meth c H locs 0 0 (MQ below (va_Qi post (gB (MWd g)) (MA g)) args s 0 0 (MA g)) (F0 m 85 ls []) := by
  have hx := F.hx
  have hb := F.hb
  have hts := F.1.2.2.2.2
  have hown := F.1.2.2.2.1
  intro n
  induction n with
  | zero =>
    intro σ x24 x25 x26 x27 x28 H locs ls hS hl h
    exact False.elim h
  | succ n ih =>
    intro σ x24 x25 x26 x27 x28 H locs ls hS hl h
    rw [wM_go_L85] at h
    refine lv_iload hx hb dX3_go_85 (lv_at hl 5 rfl) ?_
    refine lv_aload_n hx hb dX3_go_87 rfl (lv_at hl 0 rfl) ?_
    refine m_geti F hO hS 18 (by decide) rfl q1415 dX3_go_88 ?_
    refine lv_icmp_ge (tgt := 166) hx hb dX3_go_91 (by decide) (fun c29 => ?_) (fun c29 => ?_)
    · have h := h.1 c29
      refine lv_iload_n hx hb dX3_go_166 rfl (lv_at hl 2 rfl) ?_
      exact gw_iret F hS h dX3_go_167
    · have h := h.2 c29
      refine lv_iload hx hb dX3_go_94 (lv_at hl 3 rfl) ?_
      refine lv_iload hx hb dX3_go_96 (lv_at hl 5 rfl) ?_
      refine lv_ishr hx hb dX3_go_98 ?_
      refine lv_iconst (v := 1) hx hb dX3_go_99 (by decide) ?_
      refine lv_iand hx hb dX3_go_100 ?_
      refine lv_iconst (v := 1) hx hb dX3_go_101 (by decide) ?_
      obtain ⟨b38, h⟩ := h
      refine gcut (P := ∀ (s37 : MS) (H : Heap) (locs : List Loc) (ls : Array Slot), s37 = (if ((x26 >>> (x28 &&& 31)) &&& 1) = 1 then (up2 ((up2 ((up2 ((up2 ((up2 ((up2 σ 21 x28.toNatClampNeg ((100 : Int32) + x24))) 22 x28.toNatClampNeg x25)) 23 x28.toNatClampNeg 0)) 24 x28.toNatClampNeg x27)) 25 x28.toNatClampNeg x24)) 26 x28.toNatClampNeg (((up2 ((up2 ((up2 ((up2 ((up2 σ 21 x28.toNatClampNeg ((100 : Int32) + x24))) 22 x28.toNatClampNeg x25)) 23 x28.toNatClampNeg 0)) 24 x28.toNatClampNeg x27)) 25 x28.toNatClampNeg x24)) 0 0)) else σ) → gSt (MWd g) (MA g) s s37 H locs → lv_has ls 7 [(0, .ref (mad g 62)), (2, .int x24), (3, .int x25), (4, .int x26), (5, .int x27), (6, .int x28)] → W p l e rM_go s m args below meth c H locs 0 0 (MQ below (va_Qi post (gB (MWd g)) (MA g)) args s 0 0 (MA g)) (F0 m 160 ls [])) (fun s37 H locs ls es37 hS hl => ?_) (fun J39 => ?_)
      · have h := h s37 es37
        obtain ⟨x40, ex40⟩ : ∃ y : Int32, y = x28 + 1 := ⟨_, rfl⟩
        have h := h x40 ex40
        refine lv_iinc (v := x40) (lv' := [(6, .int x40), (0, .ref (mad g 62)), (2, .int x24), (3, .int x25), (4, .int x26), (5, .int x27)]) hx hb dX3_go_160 hl (k := 5) rfl (by rw [ex40]; rfl) (by decide) rfl (fun ls hl => ?_)
        refine lv_goto (tgt := 85) hx hb dX3_go_163 (by decide) ?_
        exact ih s37 x24 x25 x26 x27 x40 H locs ls hS (lv_sub hl [1, 2, 3, 4, 5, 0] rfl) h
      · refine lv_icmp_ne (tgt := 160) hx hb dX3_go_102 (by decide) (fun c30 => ?_) (fun c30 => ?_)
        · exact J39 _ H locs ls (by first | with_reducible rfl | ((try rw [if_neg c30]); done)) hS (lv_sub hl [0, 1, 2, 3, 4, 5] rfl)
        · refine lv_aload_n hx hb dX3_go_105 rfl (lv_at hl 0 rfl) ?_
          refine m_geta F hO hS 21 (by decide) rfl q1418 dX3_go_106 ?_
          refine lv_iload hx hb dX3_go_109 (lv_at hl 5 rfl) ?_
          refine lv_bipush (v := 100) hx hb dX3_go_111 (by decide) ?_
          refine lv_iload_n hx hb dX3_go_113 rfl (lv_at hl 1 rfl) ?_
          refine lv_iadd hx hb dX3_go_114 ?_
          refine m_iast F hO hS 21 17 rfl rfl ((b38 c30).1) dX3_go_115 (fun s31 es31 H locs hS => ?_)
          subst es31
          refine lv_aload_n hx hb dX3_go_116 rfl (lv_at hl 0 rfl) ?_
          refine m_geta F hO hS 22 (by decide) rfl q1419 dX3_go_117 ?_
          refine lv_iload hx hb dX3_go_120 (lv_at hl 5 rfl) ?_
          refine lv_iload_n hx hb dX3_go_122 rfl (lv_at hl 2 rfl) ?_
          refine m_iast F hO hS 22 18 rfl rfl ((b38 c30).2.1) dX3_go_123 (fun s32 es32 H locs hS => ?_)
          subst es32
          refine lv_aload_n hx hb dX3_go_124 rfl (lv_at hl 0 rfl) ?_
          refine m_geta F hO hS 23 (by decide) rfl q1420 dX3_go_125 ?_
          refine lv_iload hx hb dX3_go_128 (lv_at hl 5 rfl) ?_
          refine lv_iconst (v := 0) hx hb dX3_go_130 (by decide) ?_
          refine m_zast F hO hS 23 19 rfl rfl ((b38 c30).2.2.1) bz0 dX3_go_131 (fun s33 es33 H locs hS => ?_)
          subst es33
          refine lv_aload_n hx hb dX3_go_132 rfl (lv_at hl 0 rfl) ?_
          refine m_geta F hO hS 24 (by decide) rfl q1421 dX3_go_133 ?_
          refine lv_iload hx hb dX3_go_136 (lv_at hl 5 rfl) ?_
          refine lv_iload hx hb dX3_go_138 (lv_at hl 4 rfl) ?_
          refine m_iast F hO hS 24 20 rfl rfl ((b38 c30).2.2.2.1) dX3_go_140 (fun s34 es34 H locs hS => ?_)
          subst es34
          refine lv_aload_n hx hb dX3_go_141 rfl (lv_at hl 0 rfl) ?_
          refine m_geta F hO hS 25 (by decide) rfl q1422 dX3_go_142 ?_
          refine lv_iload hx hb dX3_go_145 (lv_at hl 5 rfl) ?_
          refine lv_iload_n hx hb dX3_go_147 rfl (lv_at hl 1 rfl) ?_
          refine m_iast F hO hS 25 21 rfl rfl ((b38 c30).2.2.2.2.1) dX3_go_148 (fun s35 es35 H locs hS => ?_)
          subst es35
          refine lv_aload_n hx hb dX3_go_149 rfl (lv_at hl 0 rfl) ?_
          refine m_geta F hO hS 26 (by decide) rfl q1423 dX3_go_150 ?_
          refine lv_iload hx hb dX3_go_153 (lv_at hl 5 rfl) ?_
          refine lv_aload_n hx hb dX3_go_155 rfl (lv_at hl 0 rfl) ?_
          refine m_geti F hO hS 0 (by decide) rfl q1397 dX3_go_156 ?_
          refine m_iast F hO hS 26 22 rfl rfl ((b38 c30).2.2.2.2.2) dX3_go_159 (fun s36 es36 H locs hS => ?_)
          subst es36
          exact J39 _ H locs ls (by first | with_reducible rfl | ((try rw [if_pos c30]); done)) hS (lv_sub hl [0, 1, 2, 3, 4, 5] rfl)
set_option maxHeartbeats 4000000 in
set_option maxRecDepth 100000 in
theorem kM_go {p : Program} {l : Launch} {e : Env} {s : State} {m : MethodId} {args : Array Value} {below : List Frame} {meth : Method} {c : Code} {g : MG} {post : Int32 → MS → Prop} (F : gFx p s m c meth args cX3_go 7 RX3 (some .int) (mD g) (mcl g) (mty g)) (hO : MOK g) (σ : MS) (a1 : Int32) (a2 : Int32) (H : Heap) (locs : List Loc) (ls : Array Slot) (hS : gSt (MWd g) (MA g) s σ H locs) (hl : lv_has ls 7 [(0, .ref (mad g 62)), (1, .int a1), (2, .int a2)]) (h : wM_go post σ a1 a2) : W p l e rM_go s m args below meth c H locs 0 0 (MQ below (va_Qi post (gB (MWd g)) (MA g)) args s 0 0 (MA g)) (F0 m 0 ls []) := by
  have hx := F.hx
  have hb := F.hb
  have hts := F.1.2.2.2.2
  have hown := F.1.2.2.2.1
  rw [wM_go] at h
  refine lv_aload_n hx hb dX3_go_0 rfl (lv_at hl 0 rfl) ?_
  refine lv_iload_n hx hb dX3_go_1 rfl (lv_at hl 1 rfl) ?_
  refine gw_callVi (As := [.int a1]) (rest := []) F hS (tM_isPerson l g hO σ a1 _ h) (cwV 1 hts (lw_V q1713 q1715 qs52 q90 q1716) rfl rfl rfl (by decide +kernel) ⟨Nat.le_of_ble_eq_true rfl, Nat.le_of_ble_eq_true rfl⟩) (m_rec F hO hS) rfl hl.1 rfl (Nat.le_of_ble_eq_true rfl) dX3_go_2 ⟨Nat.le_refl 0, Nat.le_refl 0⟩ (fun r2 s1 H locs h hS => ?_)
  obtain ⟨zr2, h⟩ := h
  refine lv_if_eq (tgt := 25) hx hb dX3_go_5 (by decide) (fun c3 => ?_) (fun c3 => ?_)
  · have h := h.1 c3
    refine lv_iconst (v := (-1)) hx hb dX3_go_25 (by decide) ?_
    exact gw_iret F hS h dX3_go_26
  · have h := h.2 c3
    refine lv_aload_n hx hb dX3_go_8 rfl (lv_at hl 0 rfl) ?_
    refine lv_iload_n hx hb dX3_go_9 rfl (lv_at hl 2 rfl) ?_
    refine gw_callVi (As := [.int a2]) (rest := []) F hS (tM_isPlace l g hO s1 a2 _ h) (cwV 1 hts (lw_V q1618 q1620 qs40 q90 q1621) rfl rfl rfl (by decide +kernel) ⟨Nat.le_of_ble_eq_true rfl, Nat.le_of_ble_eq_true rfl⟩) (m_rec F hO hS) rfl hl.1 rfl (Nat.le_of_ble_eq_true rfl) dX3_go_10 ⟨Nat.le_refl 0, Nat.le_refl 0⟩ (fun r5 s4 H locs h hS => ?_)
    obtain ⟨zr5, h⟩ := h
    refine lv_if_eq (tgt := 25) hx hb dX3_go_13 (by decide) (fun c6 => ?_) (fun c6 => ?_)
    · have h := h.1 c6
      refine lv_iconst (v := (-1)) hx hb dX3_go_25 (by decide) ?_
      exact gw_iret F hS h dX3_go_26
    · have h := h.2 c6
      refine lv_aload_n hx hb dX3_go_16 rfl (lv_at hl 0 rfl) ?_
      refine m_geta F hO hS 20 (by decide) rfl q1417 dX3_go_17 ?_
      refine lv_iload_n hx hb dX3_go_20 rfl (lv_at hl 1 rfl) ?_
      obtain ⟨b7, h⟩ := h
      refine m_iald F hS 20 16 rfl rfl b7 dX3_go_21 ?_
      refine lv_if_lt (tgt := 27) hx hb dX3_go_22 (by decide) (fun c8 => ?_) (fun c8 => ?_)
      · have h := h.1 c8
        refine lv_aload_n hx hb dX3_go_27 rfl (lv_at hl 0 rfl) ?_
        refine lv_iload_n hx hb dX3_go_28 rfl (lv_at hl 1 rfl) ?_
        refine gw_callVi (As := [.int a1]) (rest := []) F hS (tM_isAt l g hO s4 a1 _ h) (cwV 1 hts (lw_V q1717 q1719 qs53 q90 q1720) rfl rfl rfl (by decide +kernel) ⟨Nat.le_of_ble_eq_true rfl, Nat.le_of_ble_eq_true rfl⟩) (m_rec F hO hS) rfl hl.1 rfl (Nat.le_of_ble_eq_true rfl) dX3_go_29 ⟨Nat.le_refl 0, Nat.le_refl 0⟩ (fun r10 s9 H locs h hS => ?_)
        obtain ⟨zr10, h⟩ := h
        refine lv_if_ne (tgt := 38) hx hb dX3_go_32 (by decide) (fun c11 => ?_) (fun c11 => ?_)
        · have h := h.1 c11
          refine lv_aload_n hx hb dX3_go_38 rfl (lv_at hl 0 rfl) ?_
          refine lv_iload_n hx hb dX3_go_39 rfl (lv_at hl 1 rfl) ?_
          refine lv_iload_n hx hb dX3_go_40 rfl (lv_at hl 2 rfl) ?_
          refine gw_callVi (As := [.int a1, .int a2]) (rest := []) F hS (tM_arrives l g hO s9 a1 a2 _ h) (cwV 2 hts (lw_V q1739 q1741 qs55 q90 q1742) rfl rfl rfl (by decide +kernel) ⟨Nat.le_of_ble_eq_true rfl, Nat.le_of_ble_eq_true rfl⟩) (m_rec F hO hS) rfl hl.1 rfl (Nat.le_of_ble_eq_true rfl) dX3_go_41 ⟨Nat.le_refl 0, Nat.le_refl 0⟩ (fun r13 s12 H locs h hS => ?_)
          refine lv_istore_n (lv' := [(3, .int r13), (0, .ref (mad g 62)), (1, .int a1), (2, .int a2)]) hx hb dX3_go_44 rfl hl (by decide) rfl (fun ls hl => ?_)
          refine lv_aload_n hx hb dX3_go_45 rfl (lv_at hl 1 rfl) ?_
          refine lv_iload_n hx hb dX3_go_46 rfl (lv_at hl 2 rfl) ?_
          refine gw_callVi (As := [.int a1]) (rest := []) F hS (tM_party l g hO s12 a1 _ h) (cwV 1 hts (lw_V q1747 q1749 qs57 q90 q1750) rfl rfl rfl (by decide +kernel) ⟨Nat.le_of_ble_eq_true rfl, Nat.le_of_ble_eq_true rfl⟩) (m_rec F hO hS) rfl hl.1 rfl (Nat.le_of_ble_eq_true rfl) dX3_go_47 ⟨Nat.le_refl 0, Nat.le_refl 0⟩ (fun r15 s14 H locs h hS => ?_)
          refine lv_istore (lv' := [(4, .int r15), (3, .int r13), (0, .ref (mad g 62)), (1, .int a1), (2, .int a2)]) hx hb dX3_go_50 hl (by decide) rfl (fun ls hl => ?_)
          refine lv_iload_n hx hb dX3_go_52 rfl (lv_at hl 1 rfl) ?_
          refine lv_bipush (v := (-4)) hx hb dX3_go_53 (by decide) ?_
          refine lv_icmp_eq (tgt := 71) hx hb dX3_go_55 (by decide) (fun c16 => ?_) (fun c16 => ?_)
          · have h := h.1 c16
            refine lv_bipush (v := (-2)) hx hb dX3_go_71 (by decide) ?_
            exact gw_iret F hS h dX3_go_73
          · have h := h.2 c16
            refine lv_aload_n hx hb dX3_go_58 rfl (lv_at hl 2 rfl) ?_
            refine lv_iload_n hx hb dX3_go_59 rfl (lv_at hl 4 rfl) ?_
            refine lv_iload hx hb dX3_go_60 (lv_at hl 0 rfl) ?_
            refine gw_callSi (As := [.int r15]) (rest := [.int a2, .ref (mad g 62)]) F hS (tM_many l g hO s14 r15 _ h) (va_cwS 1 hts (lw_S q1751 q1752 q90 q1753) rfl rfl rfl (by decide +kernel) ⟨Nat.le_of_ble_eq_true rfl, Nat.le_of_ble_eq_true rfl⟩) rfl hl.1 rfl (Nat.le_of_ble_eq_true rfl) dX3_go_62 ⟨Nat.le_refl 0, Nat.le_refl 0⟩ (fun r18 s17 H locs h hS => ?_)
            refine gw_callVi (As := [.int a2, .int r18]) (rest := []) F hS (tM_hasBeds l g hO s17 a2 r18 _ h) (cwV 2 hts (lw_V q1701 q1703 qs50 q90 q1704) rfl rfl rfl (by decide +kernel) ⟨Nat.le_of_ble_eq_true rfl, Nat.le_of_ble_eq_true rfl⟩) (m_rec F hO hS) rfl hl.1 rfl (Nat.le_of_ble_eq_true rfl) dX3_go_65 ⟨Nat.le_refl 0, Nat.le_refl 0⟩ (fun r20 s19 H locs h hS => ?_)
            obtain ⟨zr20, h⟩ := h
            refine lv_if_ne (tgt := 74) hx hb dX3_go_68 (by decide) (fun c21 => ?_) (fun c21 => ?_)
            · have h := h.1 c21
              refine lv_aload_n hx hb dX3_go_74 rfl (lv_at hl 2 rfl) ?_
              refine m_geta F hO hS 21 (by decide) rfl q1418 dX3_go_75 ?_
              refine lv_iload_n hx hb dX3_go_78 rfl (lv_at hl 3 rfl) ?_
              obtain ⟨b22, h⟩ := h
              refine m_iald F hS 21 17 rfl rfl b22 dX3_go_79 ?_
              refine lv_topi (fun x23 ex23 => ?_)
              have h := h x23 ex23
              refine lv_istore (lv' := [(5, .int x23), (4, .int r15), (3, .int r13), (0, .ref (mad g 62)), (1, .int a1), (2, .int a2)]) hx hb dX3_go_80 hl (by decide) rfl (fun ls hl => ?_)
              refine lv_iconst (v := 0) hx hb dX3_go_82 (by decide) ?_
              refine lv_istore (lv' := [(6, .int 0), (5, .int x23), (4, .int r15), (3, .int r13), (0, .ref (mad g 62)), (1, .int a1), (2, .int a2)]) hx hb dX3_go_83 hl (by decide) rfl (fun ls hl => ?_)
              obtain ⟨n41, h⟩ := h
              exact (kM_go_L85 F hO n41) s19 a2 r13 r15 x23 0 H locs ls hS (lv_sub hl [4, 6, 3, 2, 1, 0] rfl) h
            · have h := h.2 c21
              refine lv_bipush (v := (-2)) hx hb dX3_go_71 (by decide) ?_
              exact gw_iret F hS h dX3_go_73
        · have h := h.2 c11
          refine lv_bipush (v := (-2)) hx hb dX3_go_35 (by decide) ?_
          exact gw_iret F hS h dX3_go_37
      · have h := h.2 c8
        refine lv_iconst (v := (-1)) hx hb dX3_go_25 (by decide) ?_
        exact gw_iret F hS h dX3_go_26
set_option maxHeartbeats 4000000 in
set_option maxRecDepth 100000 in
theorem tM_go (l : Launch) (g : MG) (hO : MOK g) (σ : MS) (a1 : Int32) (a2 : Int32) (post : Int32 → MS → Prop) (h : wM_go post σ a1 a2) : Met l yX3_go (ws_ yX3_go cX3_go 7 (some .int)) rM_go (va_Pc [.ref (mad g 62), .int a1, .int a2] (gPre (MWd g) (mD g) (mcl g) (mty g) σ)) (va_Qi post (gB (MWd g)) (MA g)) 0 0 (MA g) := by
  refine Met.ofW (cc := cX3_go) (maxL := 7) (ret := (some .int)) (by decide) rfl ?_
  intro p e s m args below meth c s₁ B hml hv
  obtain ⟨rfl, hW, hK⟩ := hv
  have hts := atoms_spec (ws := (ws_ yX3_go cX3_go 7 (some .int))) B.pre
  have hts : ∀ w ∈ lw_all, w.before _ s = true := fun w h => hts w (List.mem_cons_of_mem _ h)
  have hl := lv_entry ([.ref (mad g 62), .int a1, .int a2]) (n := 7) (Nat.le_of_ble_eq_true rfl)
  rw [lg_entry_eq]
  generalize (lg_sl ([.ref (mad g 62), .int a1, .int a2]) ++ List.replicate (7 - (lg_sl ([.ref (mad g 62), .int a1, .int a2])).length) Slot.unset).toArray = ls at hl ⊢
  exact kM_go ⟨⟨B.exec, B.bytes, hml, findClass_of_methodNamed B.named, hts⟩, hK, B.returns, B.notSynchronized⟩ hO σ a1 a2 s.heap [] ls ⟨hW, va_S.rf⟩ hl h
def wM_hide_J88 (post : Int32 → MS → Prop) (σ : MS) (x14 : Int32) (x15 : Int32) (x16 : Int32) : Prop := ((vp_in x14 16 ∧ bz x15) ∧ ∀ s17 : MS, s17 = up2 σ 23 x14.toNatClampNeg x15 → (∀ v20 : Int32, v20 = (if x16 = 0 then 0 else 1) → post v20 s17))
def wM_hide (post : Int32 → MS → Prop) (σ : MS) (a1 : Int32) (a2 : Int32) : Prop := wM_isPerson (fun r2 s1 => (¬ (r2 = 0) → wM_isAt (fun r5 s4 => (¬ (r5 = 0) → (vp_in a1 16 ∧ ∀ x8 : Int32, x8 = s4 21 a1.toNatClampNeg → vp_in x8 16 ∧ ((s4 2 x8.toNatClampNeg) = 2 → (vp_in a1 16 ∧ ∀ x12 : Int32, x12 = s4 23 a1.toNatClampNeg → (x12 = a2 → wM_hide_J88 post s4 a1 a2 x12) ∧ (¬ (x12 = a2) → (a2 = 0 → wM_hasBeds (fun r24 s23 => (¬ (r24 = 0) → wM_hide_J88 post s23 a1 a2 x12) ∧ (r24 = 0 → post (-3) s23)) s4 x8 1) ∧ (¬ (a2 = 0) → wM_behind (fun r27 s26 => (vp_in x8 16 ∧ (r27 < (s26 5 x8.toNatClampNeg) → wM_hide_J88 post s26 a1 a2 x12) ∧ (¬ (r27 < (s26 5 x8.toNatClampNeg)) → post (-3) s26))) s4 x8)))) ∧ (¬ ((s4 2 x8.toNatClampNeg) = 2) → post (-12) s4))) ∧ (r5 = 0 → post (-2) s4)) s1 a1) ∧ (r2 = 0 → post (-1) s1)) σ a1
abbrev rM_hide : Room := { frames := 3, cells := 0, slots := 0, locals := 66 }
set_option maxHeartbeats 4000000 in
set_option maxRecDepth 100000 in
theorem kM_hide_J88 {p : Program} {l : Launch} {e : Env} {s : State} {m : MethodId} {args : Array Value} {below : List Frame} {meth : Method} {c : Code} {g : MG} {post : Int32 → MS → Prop} (F : gFx p s m c meth args cX3_hide 5 RX3 (some .int) (mD g) (mcl g) (mty g)) (hO : MOK g) : ∀ (σ : MS) (x14 : Int32) (x15 : Int32) (x16 : Int32) (H : Heap) (locs : List Loc) (ls : Array Slot), gSt (MWd g) (MA g) s σ H locs → lv_has ls 5 [(0, .ref (mad g 62)), (1, .int x14), (2, .int x15), (4, .int x16)] → wM_hide_J88 post σ x14 x15 x16 → W p l e rM_hide s m args below meth c H locs 0 0 (MQ below (va_Qi post (gB (MWd g)) (MA g)) args s 0 0 (MA g)) (F0 m 88 ls []) := by
  have hx := F.hx
  have hb := F.hb
  have hts := F.1.2.2.2.2
  have hown := F.1.2.2.2.1
  intro σ x14 x15 x16 H locs ls hS hl h
  rw [wM_hide_J88] at h
  refine lv_aload_n hx hb dX3_hide_88 rfl (lv_at hl 0 rfl) ?_
  refine m_geta F hO hS 23 (by decide) rfl q1420 dX3_hide_89 ?_
  refine lv_iload_n hx hb dX3_hide_92 rfl (lv_at hl 1 rfl) ?_
  refine lv_iload_n hx hb dX3_hide_93 rfl (lv_at hl 2 rfl) ?_
  obtain ⟨b18, h⟩ := h
  refine m_zast F hO hS 23 19 rfl rfl b18.1 b18.2 dX3_hide_94 (fun s17 es17 H locs hS => ?_)
  have h := h s17 es17
  refine lv_iload hx hb dX3_hide_95 (lv_at hl 3 rfl) ?_
  refine gcut (P := ∀ (v20 : Int32) (H : Heap) (locs : List Loc) (ls : Array Slot), v20 = (if x16 = 0 then 0 else 1) → gSt (MWd g) (MA g) s s17 H locs → lv_has ls 5 [] → W p l e rM_hide s m args below meth c H locs 0 0 (MQ below (va_Qi post (gB (MWd g)) (MA g)) args s 0 0 (MA g)) (F0 m 105 ls [.int v20])) (fun v20 H locs ls ev20 hS hl => ?_) (fun J21 => ?_)
  · have h := h v20 ev20
    exact gw_iret F hS h dX3_hide_105
  · refine lv_if_eq (tgt := 104) hx hb dX3_hide_97 (by decide) (fun c19 => ?_) (fun c19 => ?_)
    · refine lv_iconst (v := 0) hx hb dX3_hide_104 (by decide) ?_
      exact J21 _ H locs ls (by first | with_reducible rfl | ((try rw [if_pos c19]); done)) hS (lv_sub hl [] rfl)
    · refine lv_iconst (v := 1) hx hb dX3_hide_100 (by decide) ?_
      refine lv_goto (tgt := 105) hx hb dX3_hide_101 (by decide) ?_
      exact J21 _ H locs ls (by first | with_reducible rfl | ((try rw [if_neg c19]); done)) hS (lv_sub hl [] rfl)
set_option maxHeartbeats 4000000 in
set_option maxRecDepth 100000 in
theorem kM_hide {p : Program} {l : Launch} {e : Env} {s : State} {m : MethodId} {args : Array Value} {below : List Frame} {meth : Method} {c : Code} {g : MG} {post : Int32 → MS → Prop} (F : gFx p s m c meth args cX3_hide 5 RX3 (some .int) (mD g) (mcl g) (mty g)) (hO : MOK g) (σ : MS) (a1 : Int32) (a2 : Int32) (H : Heap) (locs : List Loc) (ls : Array Slot) (hS : gSt (MWd g) (MA g) s σ H locs) (hl : lv_has ls 5 [(0, .ref (mad g 62)), (1, .int a1), (2, .int a2)]) (h : wM_hide post σ a1 a2) : W p l e rM_hide s m args below meth c H locs 0 0 (MQ below (va_Qi post (gB (MWd g)) (MA g)) args s 0 0 (MA g)) (F0 m 0 ls []) := by
  have hx := F.hx
  have hb := F.hb
  have hts := F.1.2.2.2.2
  have hown := F.1.2.2.2.1
  rw [wM_hide] at h
  refine lv_aload_n hx hb dX3_hide_0 rfl (lv_at hl 0 rfl) ?_
  refine lv_iload_n hx hb dX3_hide_1 rfl (lv_at hl 1 rfl) ?_
  refine gw_callVi (As := [.int a1]) (rest := []) F hS (tM_isPerson l g hO σ a1 _ h) (cwV 1 hts (lw_V q1713 q1715 qs52 q90 q1716) rfl rfl rfl (by decide +kernel) ⟨Nat.le_of_ble_eq_true rfl, Nat.le_of_ble_eq_true rfl⟩) (m_rec F hO hS) rfl hl.1 rfl (Nat.le_of_ble_eq_true rfl) dX3_hide_2 ⟨Nat.le_refl 0, Nat.le_refl 0⟩ (fun r2 s1 H locs h hS => ?_)
  obtain ⟨zr2, h⟩ := h
  refine lv_if_ne (tgt := 10) hx hb dX3_hide_5 (by decide) (fun c3 => ?_) (fun c3 => ?_)
  · have h := h.1 c3
    refine lv_aload_n hx hb dX3_hide_10 rfl (lv_at hl 0 rfl) ?_
    refine lv_iload_n hx hb dX3_hide_11 rfl (lv_at hl 1 rfl) ?_
    refine gw_callVi (As := [.int a1]) (rest := []) F hS (tM_isAt l g hO s1 a1 _ h) (cwV 1 hts (lw_V q1717 q1719 qs53 q90 q1720) rfl rfl rfl (by decide +kernel) ⟨Nat.le_of_ble_eq_true rfl, Nat.le_of_ble_eq_true rfl⟩) (m_rec F hO hS) rfl hl.1 rfl (Nat.le_of_ble_eq_true rfl) dX3_hide_12 ⟨Nat.le_refl 0, Nat.le_refl 0⟩ (fun r5 s4 H locs h hS => ?_)
    obtain ⟨zr5, h⟩ := h
    refine lv_if_ne (tgt := 21) hx hb dX3_hide_15 (by decide) (fun c6 => ?_) (fun c6 => ?_)
    · have h := h.1 c6
      refine lv_aload_n hx hb dX3_hide_21 rfl (lv_at hl 0 rfl) ?_
      refine m_geta F hO hS 21 (by decide) rfl q1418 dX3_hide_22 ?_
      refine lv_iload_n hx hb dX3_hide_25 rfl (lv_at hl 1 rfl) ?_
      obtain ⟨b7, h⟩ := h
      refine m_iald F hS 21 17 rfl rfl b7 dX3_hide_26 ?_
      refine lv_topi (fun x8 ex8 => ?_)
      have h := h x8 ex8
      refine lv_istore_n (lv' := [(3, .int x8), (0, .ref (mad g 62)), (1, .int a1), (2, .int a2)]) hx hb dX3_hide_27 rfl hl (by decide) rfl (fun ls hl => ?_)
      refine lv_aload_n hx hb dX3_hide_28 rfl (lv_at hl 1 rfl) ?_
      refine m_geta F hO hS 2 (by decide) rfl q1399 dX3_hide_29 ?_
      refine lv_iload_n hx hb dX3_hide_32 rfl (lv_at hl 0 rfl) ?_
      obtain ⟨b9, h⟩ := h
      refine m_iald F hS 2 0 rfl rfl b9 dX3_hide_33 ?_
      refine lv_iconst (v := 2) hx hb dX3_hide_34 (by decide) ?_
      refine lv_icmp_eq (tgt := 41) hx hb dX3_hide_35 (by decide) (fun c10 => ?_) (fun c10 => ?_)
      · have h := h.1 c10
        refine lv_aload_n hx hb dX3_hide_41 rfl (lv_at hl 1 rfl) ?_
        refine m_geta F hO hS 23 (by decide) rfl q1420 dX3_hide_42 ?_
        refine lv_iload_n hx hb dX3_hide_45 rfl (lv_at hl 2 rfl) ?_
        obtain ⟨b11, h⟩ := h
        refine m_zald F hS 23 19 rfl rfl b11 dX3_hide_46 ?_
        refine lv_topi (fun x12 ex12 => ?_)
        have h := h x12 ex12
        refine lv_istore (lv' := [(4, .int x12), (3, .int x8), (0, .ref (mad g 62)), (1, .int a1), (2, .int a2)]) hx hb dX3_hide_47 hl (by decide) rfl (fun ls hl => ?_)
        refine lv_iload hx hb dX3_hide_49 (lv_at hl 0 rfl) ?_
        refine lv_iload_n hx hb dX3_hide_51 rfl (lv_at hl 4 rfl) ?_
        refine lv_icmp_eq (tgt := 88) hx hb dX3_hide_52 (by decide) (fun c13 => ?_) (fun c13 => ?_)
        · have h := h.1 c13
          exact (kM_hide_J88 F hO) s4 a1 a2 x12 H locs ls hS (lv_sub hl [2, 3, 4, 0] rfl) h
        · have h := h.2 c13
          refine lv_iload_n hx hb dX3_hide_55 rfl (lv_at hl 4 rfl) ?_
          refine lv_if_eq (tgt := 76) hx hb dX3_hide_56 (by decide) (fun c22 => ?_) (fun c22 => ?_)
          · have h := h.1 c22
            refine lv_aload_n hx hb dX3_hide_76 rfl (lv_at hl 2 rfl) ?_
            refine lv_iload_n hx hb dX3_hide_77 rfl (lv_at hl 1 rfl) ?_
            refine lv_iconst (v := 1) hx hb dX3_hide_78 (by decide) ?_
            refine gw_callVi (As := [.int x8, .int 1]) (rest := []) F hS (tM_hasBeds l g hO s4 x8 1 _ h) (cwV 2 hts (lw_V q1701 q1703 qs50 q90 q1704) rfl rfl rfl (by decide +kernel) ⟨Nat.le_of_ble_eq_true rfl, Nat.le_of_ble_eq_true rfl⟩) (m_rec F hO hS) rfl hl.1 rfl (Nat.le_of_ble_eq_true rfl) dX3_hide_79 ⟨Nat.le_refl 0, Nat.le_refl 0⟩ (fun r24 s23 H locs h hS => ?_)
            obtain ⟨zr24, h⟩ := h
            refine lv_if_ne (tgt := 88) hx hb dX3_hide_82 (by decide) (fun c25 => ?_) (fun c25 => ?_)
            · have h := h.1 c25
              exact (kM_hide_J88 F hO) s23 a1 a2 x12 H locs ls hS (lv_sub hl [2, 3, 4, 0] rfl) h
            · have h := h.2 c25
              refine lv_bipush (v := (-3)) hx hb dX3_hide_85 (by decide) ?_
              exact gw_iret F hS h dX3_hide_87
          · have h := h.2 c22
            refine lv_aload_n hx hb dX3_hide_59 rfl (lv_at hl 2 rfl) ?_
            refine lv_iload_n hx hb dX3_hide_60 rfl (lv_at hl 1 rfl) ?_
            refine gw_callVi (As := [.int x8]) (rest := []) F hS (tM_behind l g hO s4 x8 _ h) (cwV 1 hts (lw_V q1685 q1687 qs47 q90 q1688) rfl rfl rfl (by decide +kernel) ⟨Nat.le_of_ble_eq_true rfl, Nat.le_of_ble_eq_true rfl⟩) (m_rec F hO hS) rfl hl.1 rfl (Nat.le_of_ble_eq_true rfl) dX3_hide_61 ⟨Nat.le_refl 0, Nat.le_refl 0⟩ (fun r27 s26 H locs h hS => ?_)
            refine lv_aload_n hx hb dX3_hide_64 rfl (lv_at hl 2 rfl) ?_
            refine m_geta F hO hS 5 (by decide) rfl q1402 dX3_hide_65 ?_
            refine lv_iload_n hx hb dX3_hide_68 rfl (lv_at hl 1 rfl) ?_
            obtain ⟨b28, h⟩ := h
            refine m_iald F hS 5 3 rfl rfl b28 dX3_hide_69 ?_
            refine lv_icmp_lt (tgt := 88) hx hb dX3_hide_70 (by decide) (fun c29 => ?_) (fun c29 => ?_)
            · have h := h.1 c29
              exact (kM_hide_J88 F hO) s26 a1 a2 x12 H locs ls hS (lv_sub hl [2, 3, 4, 0] rfl) h
            · have h := h.2 c29
              refine lv_goto (tgt := 85) hx hb dX3_hide_73 (by decide) ?_
              refine lv_bipush (v := (-3)) hx hb dX3_hide_85 (by decide) ?_
              exact gw_iret F hS h dX3_hide_87
      · have h := h.2 c10
        refine lv_bipush (v := (-12)) hx hb dX3_hide_38 (by decide) ?_
        exact gw_iret F hS h dX3_hide_40
    · have h := h.2 c6
      refine lv_bipush (v := (-2)) hx hb dX3_hide_18 (by decide) ?_
      exact gw_iret F hS h dX3_hide_20
  · have h := h.2 c3
    refine lv_iconst (v := (-1)) hx hb dX3_hide_8 (by decide) ?_
    exact gw_iret F hS h dX3_hide_9
set_option maxHeartbeats 4000000 in
set_option maxRecDepth 100000 in
theorem tM_hide (l : Launch) (g : MG) (hO : MOK g) (σ : MS) (a1 : Int32) (a2 : Int32) (post : Int32 → MS → Prop) (h : wM_hide post σ a1 a2) : Met l yX3_hide (ws_ yX3_hide cX3_hide 5 (some .int)) rM_hide (va_Pc [.ref (mad g 62), .int a1, .int a2] (gPre (MWd g) (mD g) (mcl g) (mty g) σ)) (va_Qi post (gB (MWd g)) (MA g)) 0 0 (MA g) := by
  refine Met.ofW (cc := cX3_hide) (maxL := 5) (ret := (some .int)) (by decide) rfl ?_
  intro p e s m args below meth c s₁ B hml hv
  obtain ⟨rfl, hW, hK⟩ := hv
  have hts := atoms_spec (ws := (ws_ yX3_hide cX3_hide 5 (some .int))) B.pre
  have hts : ∀ w ∈ lw_all, w.before _ s = true := fun w h => hts w (List.mem_cons_of_mem _ h)
  have hl := lv_entry ([.ref (mad g 62), .int a1, .int a2]) (n := 5) (Nat.le_of_ble_eq_true rfl)
  rw [lg_entry_eq]
  generalize (lg_sl ([.ref (mad g 62), .int a1, .int a2]) ++ List.replicate (5 - (lg_sl ([.ref (mad g 62), .int a1, .int a2])).length) Slot.unset).toArray = ls at hl ⊢
  exact kM_hide ⟨⟨B.exec, B.bytes, hml, findClass_of_methodNamed B.named, hts⟩, hK, B.returns, B.notSynchronized⟩ hO σ a1 a2 s.heap [] ls ⟨hW, va_S.rf⟩ hl h
def wM_over_L38 (post : Int32 → MS → Prop) : Nat → MS → Int32 → Int32 → Prop
  | 0, _, _, _ => False
  | n + 1, σ, x11, x12 => ((σ 18 0) ≤ x12 → wM_many (fun r15 s14 => post r15 s14) σ x11) ∧ (¬ ((σ 18 0) ≤ x12) → (((¬ (((x11 >>> (x12 &&& 31)) &&& 1) = 1) → vp_in x12 16)) ∧ ∀ v17 : Int32, v17 = (if ((x11 >>> (x12 &&& 31)) &&& 1) = 1 then 201 else σ 21 x12.toNatClampNeg) → (vp_in x12 16 ∧ ∀ s20 : MS, s20 = up2 σ 21 x12.toNatClampNeg v17 → ∀ x22 : Int32, x22 = x12 + 1 → wM_over_L38 post n s20 x11 x22)))
def wM_over (post : Int32 → MS → Prop) (σ : MS) (a1 : Int32) : Prop := wM_isPerson (fun r2 s1 => (r2 = 0 → post (-1) s1) ∧ (¬ (r2 = 0) → (vp_in a1 16 ∧ ((s1 20 a1.toNatClampNeg) < 0 → wM_isAt (fun r7 s6 => (¬ (r7 = 0) → wM_party (fun r10 s9 => ∃ n23, wM_over_L38 post n23 s9 r10 0) s6 a1) ∧ (r7 = 0 → post (-2) s6)) s1 a1) ∧ (¬ ((s1 20 a1.toNatClampNeg) < 0) → post (-1) s1)))) σ a1
abbrev rM_over : Room := { frames := 2, cells := 0, slots := 0, locals := 46 }
set_option maxHeartbeats 4000000 in
set_option maxRecDepth 100000 in
theorem kM_over_L38 {p : Program} {l : Launch} {e : Env} {s : State} {m : MethodId} {args : Array Value} {below : List Frame} {meth : Method} {c : Code} {g : MG} {post : Int32 → MS → Prop} (F : gFx p s m c meth args cX3_over 4 RX3 (some .int) (mD g) (mcl g) (mty g)) (hO : MOK g) : ∀ (n : Nat) (σ : MS) (x11 : Int32) (x12 : Int32) (H : Heap) (locs : List Loc) (ls : Array Slot), gSt (MWd g) (MA g) s σ H locs → lv_has ls 4 [(0, .ref (mad g 62)), (2, .int x11), (3, .int x12)] → wM_over_L38 post n σ x11 x12 → W p l e rM_over s m args below meth c H locs 0 0 (MQ below (va_Qi post (gB (MWd g)) (MA g)) args s 0 0 (MA g)) (F0 m 38 ls []) := by
  have hx := F.hx
  have hb := F.hb
  have hts := F.1.2.2.2.2
  have hown := F.1.2.2.2.1
  intro n
  induction n with
  | zero =>
    intro σ x11 x12 H locs ls hS hl h
    exact False.elim h
  | succ n ih =>
    intro σ x11 x12 H locs ls hS hl h
    rw [wM_over_L38] at h
    refine lv_iload_n hx hb dX3_over_38 rfl (lv_at hl 2 rfl) ?_
    refine lv_aload_n hx hb dX3_over_39 rfl (lv_at hl 0 rfl) ?_
    refine m_geti F hO hS 18 (by decide) rfl q1415 dX3_over_40 ?_
    refine lv_icmp_ge (tgt := 79) hx hb dX3_over_43 (by decide) (fun c13 => ?_) (fun c13 => ?_)
    · have h := h.1 c13
      refine lv_iload_n hx hb dX3_over_79 rfl (lv_at hl 1 rfl) ?_
      refine gw_callSi (As := [.int x11]) (rest := []) F hS (tM_many l g hO σ x11 _ h) (va_cwS 1 hts (lw_S q1751 q1752 q90 q1753) rfl rfl rfl (by decide +kernel) ⟨Nat.le_of_ble_eq_true rfl, Nat.le_of_ble_eq_true rfl⟩) rfl hl.1 rfl (Nat.le_of_ble_eq_true rfl) dX3_over_80 ⟨Nat.le_refl 0, Nat.le_refl 0⟩ (fun r15 s14 H locs h hS => ?_)
      exact gw_iret F hS h dX3_over_83
    · have h := h.2 c13
      refine lv_aload_n hx hb dX3_over_46 rfl (lv_at hl 0 rfl) ?_
      refine m_geta F hO hS 21 (by decide) rfl q1418 dX3_over_47 ?_
      refine lv_iload_n hx hb dX3_over_50 rfl (lv_at hl 2 rfl) ?_
      refine lv_iload_n hx hb dX3_over_51 rfl (lv_at hl 1 rfl) ?_
      refine lv_iload_n hx hb dX3_over_52 rfl (lv_at hl 2 rfl) ?_
      refine lv_ishr hx hb dX3_over_53 ?_
      refine lv_iconst (v := 1) hx hb dX3_over_54 (by decide) ?_
      refine lv_iand hx hb dX3_over_55 ?_
      refine lv_iconst (v := 1) hx hb dX3_over_56 (by decide) ?_
      obtain ⟨b18, h⟩ := h
      refine gcut (P := ∀ (v17 : Int32) (H : Heap) (locs : List Loc) (ls : Array Slot), v17 = (if ((x11 >>> (x12 &&& 31)) &&& 1) = 1 then 201 else σ 21 x12.toNatClampNeg) → gSt (MWd g) (MA g) s σ H locs → lv_has ls 4 [(0, .ref (mad g 62)), (2, .int x11), (3, .int x12)] → W p l e rM_over s m args below meth c H locs 0 0 (MQ below (va_Qi post (gB (MWd g)) (MA g)) args s 0 0 (MA g)) (F0 m 72 ls [.int v17, .int x12, .ref (mad g 21)])) (fun v17 H locs ls ev17 hS hl => ?_) (fun J19 => ?_)
      · have h := h v17 ev17
        obtain ⟨b21, h⟩ := h
        refine m_iast F hO hS 21 17 rfl rfl b21 dX3_over_72 (fun s20 es20 H locs hS => ?_)
        have h := h s20 es20
        obtain ⟨x22, ex22⟩ : ∃ y : Int32, y = x12 + 1 := ⟨_, rfl⟩
        have h := h x22 ex22
        refine lv_iinc (v := x22) (lv' := [(3, .int x22), (0, .ref (mad g 62)), (2, .int x11)]) hx hb dX3_over_73 hl (k := 2) rfl (by rw [ex22]; rfl) (by decide) rfl (fun ls hl => ?_)
        refine lv_goto (tgt := 38) hx hb dX3_over_76 (by decide) ?_
        exact ih s20 x11 x22 H locs ls hS (lv_sub hl [1, 2, 0] rfl) h
      · refine lv_icmp_ne (tgt := 66) hx hb dX3_over_57 (by decide) (fun c16 => ?_) (fun c16 => ?_)
        · refine lv_aload_n hx hb dX3_over_66 rfl (lv_at hl 0 rfl) ?_
          refine m_geta F hO hS 21 (by decide) rfl q1418 dX3_over_67 ?_
          refine lv_iload_n hx hb dX3_over_70 rfl (lv_at hl 2 rfl) ?_
          refine m_iald F hS 21 17 rfl rfl ((b18 c16)) dX3_over_71 ?_
          exact J19 _ H locs ls (by first | with_reducible rfl | ((try rw [if_neg c16]); done)) hS (lv_sub hl [0, 1, 2] rfl)
        · refine lv_sipush (v := 201) hx hb dX3_over_60 (by decide) ?_
          refine lv_goto (tgt := 72) hx hb dX3_over_63 (by decide) ?_
          exact J19 _ H locs ls (by first | with_reducible rfl | ((try rw [if_pos c16]); done)) hS (lv_sub hl [0, 1, 2] rfl)
set_option maxHeartbeats 4000000 in
set_option maxRecDepth 100000 in
theorem kM_over {p : Program} {l : Launch} {e : Env} {s : State} {m : MethodId} {args : Array Value} {below : List Frame} {meth : Method} {c : Code} {g : MG} {post : Int32 → MS → Prop} (F : gFx p s m c meth args cX3_over 4 RX3 (some .int) (mD g) (mcl g) (mty g)) (hO : MOK g) (σ : MS) (a1 : Int32) (H : Heap) (locs : List Loc) (ls : Array Slot) (hS : gSt (MWd g) (MA g) s σ H locs) (hl : lv_has ls 4 [(0, .ref (mad g 62)), (1, .int a1)]) (h : wM_over post σ a1) : W p l e rM_over s m args below meth c H locs 0 0 (MQ below (va_Qi post (gB (MWd g)) (MA g)) args s 0 0 (MA g)) (F0 m 0 ls []) := by
  have hx := F.hx
  have hb := F.hb
  have hts := F.1.2.2.2.2
  have hown := F.1.2.2.2.1
  rw [wM_over] at h
  refine lv_aload_n hx hb dX3_over_0 rfl (lv_at hl 0 rfl) ?_
  refine lv_iload_n hx hb dX3_over_1 rfl (lv_at hl 1 rfl) ?_
  refine gw_callVi (As := [.int a1]) (rest := []) F hS (tM_isPerson l g hO σ a1 _ h) (cwV 1 hts (lw_V q1713 q1715 qs52 q90 q1716) rfl rfl rfl (by decide +kernel) ⟨Nat.le_of_ble_eq_true rfl, Nat.le_of_ble_eq_true rfl⟩) (m_rec F hO hS) rfl hl.1 rfl (Nat.le_of_ble_eq_true rfl) dX3_over_2 ⟨Nat.le_refl 0, Nat.le_refl 0⟩ (fun r2 s1 H locs h hS => ?_)
  obtain ⟨zr2, h⟩ := h
  refine lv_if_eq (tgt := 17) hx hb dX3_over_5 (by decide) (fun c3 => ?_) (fun c3 => ?_)
  · have h := h.1 c3
    refine lv_iconst (v := (-1)) hx hb dX3_over_17 (by decide) ?_
    exact gw_iret F hS h dX3_over_18
  · have h := h.2 c3
    refine lv_aload_n hx hb dX3_over_8 rfl (lv_at hl 0 rfl) ?_
    refine m_geta F hO hS 20 (by decide) rfl q1417 dX3_over_9 ?_
    refine lv_iload_n hx hb dX3_over_12 rfl (lv_at hl 1 rfl) ?_
    obtain ⟨b4, h⟩ := h
    refine m_iald F hS 20 16 rfl rfl b4 dX3_over_13 ?_
    refine lv_if_lt (tgt := 19) hx hb dX3_over_14 (by decide) (fun c5 => ?_) (fun c5 => ?_)
    · have h := h.1 c5
      refine lv_aload_n hx hb dX3_over_19 rfl (lv_at hl 0 rfl) ?_
      refine lv_iload_n hx hb dX3_over_20 rfl (lv_at hl 1 rfl) ?_
      refine gw_callVi (As := [.int a1]) (rest := []) F hS (tM_isAt l g hO s1 a1 _ h) (cwV 1 hts (lw_V q1717 q1719 qs53 q90 q1720) rfl rfl rfl (by decide +kernel) ⟨Nat.le_of_ble_eq_true rfl, Nat.le_of_ble_eq_true rfl⟩) (m_rec F hO hS) rfl hl.1 rfl (Nat.le_of_ble_eq_true rfl) dX3_over_21 ⟨Nat.le_refl 0, Nat.le_refl 0⟩ (fun r7 s6 H locs h hS => ?_)
      obtain ⟨zr7, h⟩ := h
      refine lv_if_ne (tgt := 30) hx hb dX3_over_24 (by decide) (fun c8 => ?_) (fun c8 => ?_)
      · have h := h.1 c8
        refine lv_aload_n hx hb dX3_over_30 rfl (lv_at hl 0 rfl) ?_
        refine lv_iload_n hx hb dX3_over_31 rfl (lv_at hl 1 rfl) ?_
        refine gw_callVi (As := [.int a1]) (rest := []) F hS (tM_party l g hO s6 a1 _ h) (cwV 1 hts (lw_V q1747 q1749 qs57 q90 q1750) rfl rfl rfl (by decide +kernel) ⟨Nat.le_of_ble_eq_true rfl, Nat.le_of_ble_eq_true rfl⟩) (m_rec F hO hS) rfl hl.1 rfl (Nat.le_of_ble_eq_true rfl) dX3_over_32 ⟨Nat.le_refl 0, Nat.le_refl 0⟩ (fun r10 s9 H locs h hS => ?_)
        refine lv_istore_n (lv' := [(2, .int r10), (0, .ref (mad g 62)), (1, .int a1)]) hx hb dX3_over_35 rfl hl (by decide) rfl (fun ls hl => ?_)
        refine lv_iconst (v := 0) hx hb dX3_over_36 (by decide) ?_
        refine lv_istore_n (lv' := [(3, .int 0), (2, .int r10), (0, .ref (mad g 62)), (1, .int a1)]) hx hb dX3_over_37 rfl hl (by decide) rfl (fun ls hl => ?_)
        obtain ⟨n23, h⟩ := h
        exact (kM_over_L38 F hO n23) s9 r10 0 H locs ls hS (lv_sub hl [2, 1, 0] rfl) h
      · have h := h.2 c8
        refine lv_bipush (v := (-2)) hx hb dX3_over_27 (by decide) ?_
        exact gw_iret F hS h dX3_over_29
    · have h := h.2 c5
      refine lv_iconst (v := (-1)) hx hb dX3_over_17 (by decide) ?_
      exact gw_iret F hS h dX3_over_18
set_option maxHeartbeats 4000000 in
set_option maxRecDepth 100000 in
theorem tM_over (l : Launch) (g : MG) (hO : MOK g) (σ : MS) (a1 : Int32) (post : Int32 → MS → Prop) (h : wM_over post σ a1) : Met l yX3_over (ws_ yX3_over cX3_over 4 (some .int)) rM_over (va_Pc [.ref (mad g 62), .int a1] (gPre (MWd g) (mD g) (mcl g) (mty g) σ)) (va_Qi post (gB (MWd g)) (MA g)) 0 0 (MA g) := by
  refine Met.ofW (cc := cX3_over) (maxL := 4) (ret := (some .int)) (by decide) rfl ?_
  intro p e s m args below meth c s₁ B hml hv
  obtain ⟨rfl, hW, hK⟩ := hv
  have hts := atoms_spec (ws := (ws_ yX3_over cX3_over 4 (some .int))) B.pre
  have hts : ∀ w ∈ lw_all, w.before _ s = true := fun w h => hts w (List.mem_cons_of_mem _ h)
  have hl := lv_entry ([.ref (mad g 62), .int a1]) (n := 4) (Nat.le_of_ble_eq_true rfl)
  rw [lg_entry_eq]
  generalize (lg_sl ([.ref (mad g 62), .int a1]) ++ List.replicate (4 - (lg_sl ([.ref (mad g 62), .int a1])).length) Slot.unset).toArray = ls at hl ⊢
  exact kM_over ⟨⟨B.exec, B.bytes, hml, findClass_of_methodNamed B.named, hts⟩, hK, B.returns, B.notSynchronized⟩ hO σ a1 s.heap [] ls ⟨hW, va_S.rf⟩ hl h
def wM_hour_L41 (post : Int32 → MS → Prop) : Nat → MS → Int32 → Prop
  | 0, _, _ => False
  | n + 1, σ, x6 => ((σ 18 0) ≤ x6 → post (σ 0 0) σ) ∧ (¬ ((σ 18 0) ≤ x6) → (vp_in x6 16 ∧ wM_in (fun r10 s9 => (((¬ (r10 = 0) → vp_in x6 16 ∧ (¬ ((s9 0 0) < (s9 22 x6.toNatClampNeg)) → vp_in x6 16 ∧ vp_in x6 16 ∧ vp_in x6 16))) ∧ ∀ s15 : MS, s15 = (if r10 = 0 then s9 else if (s9 0 0) < (s9 22 x6.toNatClampNeg) then s9 else (up2 ((up2 s9 21 x6.toNatClampNeg ((s9 21 x6.toNatClampNeg) - 100))) 23 x6.toNatClampNeg 0)) → (∀ x18 : Int32, x18 = x6 + 1 → wM_hour_L41 post n s15 x18))) σ ((σ 21 x6.toNatClampNeg).toInt64) 100 115))
def wM_hour (post : Int32 → MS → Prop) (σ : MS) (a1 : Int32) : Prop := wM_in (fun r2 s1 => (¬ (r2 = 0) → (((s1 0 0) + a1) ≤ 9999 → (∀ s5 : MS, s5 = up2 s1 0 0 ((s1 0 0) + a1) → ∃ n19, wM_hour_L41 post n19 s5 0)) ∧ (¬ (((s1 0 0) + a1) ≤ 9999) → post (-2) s1)) ∧ (r2 = 0 → post (-1) s1)) σ a1.toInt64 1 200
abbrev rM_hour : Room := { frames := 1, cells := 0, slots := 0, locals := 25 }
set_option maxHeartbeats 4000000 in
set_option maxRecDepth 100000 in
theorem kM_hour_L41 {p : Program} {l : Launch} {e : Env} {s : State} {m : MethodId} {args : Array Value} {below : List Frame} {meth : Method} {c : Code} {g : MG} {post : Int32 → MS → Prop} (F : gFx p s m c meth args cX3_hour 3 RX3 (some .int) (mD g) (mcl g) (mty g)) (hO : MOK g) : ∀ (n : Nat) (σ : MS) (x6 : Int32) (H : Heap) (locs : List Loc) (ls : Array Slot), gSt (MWd g) (MA g) s σ H locs → lv_has ls 3 [(0, .ref (mad g 62)), (2, .int x6)] → wM_hour_L41 post n σ x6 → W p l e rM_hour s m args below meth c H locs 0 0 (MQ below (va_Qi post (gB (MWd g)) (MA g)) args s 0 0 (MA g)) (F0 m 41 ls []) := by
  have hx := F.hx
  have hb := F.hb
  have hts := F.1.2.2.2.2
  have hown := F.1.2.2.2.1
  intro n
  induction n with
  | zero =>
    intro σ x6 H locs ls hS hl h
    exact False.elim h
  | succ n ih =>
    intro σ x6 H locs ls hS hl h
    rw [wM_hour_L41] at h
    refine lv_iload_n hx hb dX3_hour_41 rfl (lv_at hl 1 rfl) ?_
    refine lv_aload_n hx hb dX3_hour_42 rfl (lv_at hl 0 rfl) ?_
    refine m_geti F hO hS 18 (by decide) rfl q1415 dX3_hour_43 ?_
    refine lv_icmp_ge (tgt := 105) hx hb dX3_hour_46 (by decide) (fun c7 => ?_) (fun c7 => ?_)
    · have h := h.1 c7
      refine lv_aload_n hx hb dX3_hour_105 rfl (lv_at hl 0 rfl) ?_
      refine m_geti F hO hS 0 (by decide) rfl q1397 dX3_hour_106 ?_
      exact gw_iret F hS h dX3_hour_109
    · have h := h.2 c7
      refine lv_aload_n hx hb dX3_hour_49 rfl (lv_at hl 0 rfl) ?_
      refine m_geta F hO hS 21 (by decide) rfl q1418 dX3_hour_50 ?_
      refine lv_iload_n hx hb dX3_hour_53 rfl (lv_at hl 1 rfl) ?_
      obtain ⟨b8, h⟩ := h
      refine m_iald F hS 21 17 rfl rfl b8 dX3_hour_54 ?_
      refine lv_i2l hx hb dX3_hour_55 rfl ?_
      refine lv_ldc2 (v := 100) hx hb hown (hts _ q1733) dX3_hour_56 ?_
      refine lv_ldc2 (v := 115) hx hb hown (hts _ q1734) dX3_hour_59 ?_
      refine gw_callSi (As := [.long ((σ 21 x6.toNatClampNeg).toInt64), .long 100, .long 115]) (rest := []) F hS (tM_in l g hO σ ((σ 21 x6.toNatClampNeg).toInt64) 100 115 _ h) (va_cwS 3 hts (lw_S q1593 q1594 q90 q1595) rfl rfl rfl (by decide +kernel) ⟨Nat.le_of_ble_eq_true rfl, Nat.le_of_ble_eq_true rfl⟩) rfl hl.1 rfl (Nat.le_of_ble_eq_true rfl) dX3_hour_62 ⟨Nat.le_refl 0, Nat.le_refl 0⟩ (fun r10 s9 H locs h hS => ?_)
      obtain ⟨zr10, h⟩ := h
      obtain ⟨b16, h⟩ := h
      refine gcut (P := ∀ (s15 : MS) (H : Heap) (locs : List Loc) (ls : Array Slot), s15 = (if r10 = 0 then s9 else if (s9 0 0) < (s9 22 x6.toNatClampNeg) then s9 else (up2 ((up2 s9 21 x6.toNatClampNeg ((s9 21 x6.toNatClampNeg) - 100))) 23 x6.toNatClampNeg 0)) → gSt (MWd g) (MA g) s s15 H locs → lv_has ls 3 [(0, .ref (mad g 62)), (2, .int x6)] → W p l e rM_hour s m args below meth c H locs 0 0 (MQ below (va_Qi post (gB (MWd g)) (MA g)) args s 0 0 (MA g)) (F0 m 99 ls [])) (fun s15 H locs ls es15 hS hl => ?_) (fun J17 => ?_)
      · have h := h s15 es15
        obtain ⟨x18, ex18⟩ : ∃ y : Int32, y = x6 + 1 := ⟨_, rfl⟩
        have h := h x18 ex18
        refine lv_iinc (v := x18) (lv' := [(2, .int x18), (0, .ref (mad g 62))]) hx hb dX3_hour_99 hl (k := 1) rfl (by rw [ex18]; rfl) (by decide) rfl (fun ls hl => ?_)
        refine lv_goto (tgt := 41) hx hb dX3_hour_102 (by decide) ?_
        exact ih s15 x18 H locs ls hS (lv_sub hl [1, 0] rfl) h
      · refine lv_if_eq (tgt := 99) hx hb dX3_hour_65 (by decide) (fun c11 => ?_) (fun c11 => ?_)
        · exact J17 _ H locs ls (by first | with_reducible rfl | ((try rw [if_pos c11]); done)) hS (lv_sub hl [0, 1] rfl)
        · refine lv_aload_n hx hb dX3_hour_68 rfl (lv_at hl 0 rfl) ?_
          refine m_geta F hO hS 22 (by decide) rfl q1419 dX3_hour_69 ?_
          refine lv_iload_n hx hb dX3_hour_72 rfl (lv_at hl 1 rfl) ?_
          refine m_iald F hS 22 18 rfl rfl ((b16 c11).1) dX3_hour_73 ?_
          refine lv_aload_n hx hb dX3_hour_74 rfl (lv_at hl 0 rfl) ?_
          refine m_geti F hO hS 0 (by decide) rfl q1397 dX3_hour_75 ?_
          refine lv_icmp_gt (tgt := 99) hx hb dX3_hour_78 (by decide) (fun c12 => ?_) (fun c12 => ?_)
          · exact J17 _ H locs ls (by first | with_reducible rfl | ((try rw [if_neg c11]); (try rw [if_pos c12]); done)) hS (lv_sub hl [0, 1] rfl)
          · refine lv_aload_n hx hb dX3_hour_81 rfl (lv_at hl 0 rfl) ?_
            refine m_geta F hO hS 21 (by decide) rfl q1418 dX3_hour_82 ?_
            refine lv_iload_n hx hb dX3_hour_85 rfl (lv_at hl 1 rfl) ?_
            refine lv_dup2_11 hx hb dX3_hour_86 rfl rfl ?_
            refine m_iald F hS 21 17 rfl rfl (((b16 c11).2 c12).1) dX3_hour_87 ?_
            refine lv_bipush (v := 100) hx hb dX3_hour_88 (by decide) ?_
            refine lv_isub hx hb dX3_hour_90 ?_
            refine m_iast F hO hS 21 17 rfl rfl (((b16 c11).2 c12).2.1) dX3_hour_91 (fun s13 es13 H locs hS => ?_)
            subst es13
            refine lv_aload_n hx hb dX3_hour_92 rfl (lv_at hl 0 rfl) ?_
            refine m_geta F hO hS 23 (by decide) rfl q1420 dX3_hour_93 ?_
            refine lv_iload_n hx hb dX3_hour_96 rfl (lv_at hl 1 rfl) ?_
            refine lv_iconst (v := 0) hx hb dX3_hour_97 (by decide) ?_
            refine m_zast F hO hS 23 19 rfl rfl (((b16 c11).2 c12).2.2) bz0 dX3_hour_98 (fun s14 es14 H locs hS => ?_)
            subst es14
            exact J17 _ H locs ls (by first | with_reducible rfl | ((try rw [if_neg c11]); (try rw [if_neg c12]); done)) hS (lv_sub hl [0, 1] rfl)
set_option maxHeartbeats 4000000 in
set_option maxRecDepth 100000 in
theorem kM_hour {p : Program} {l : Launch} {e : Env} {s : State} {m : MethodId} {args : Array Value} {below : List Frame} {meth : Method} {c : Code} {g : MG} {post : Int32 → MS → Prop} (F : gFx p s m c meth args cX3_hour 3 RX3 (some .int) (mD g) (mcl g) (mty g)) (hO : MOK g) (σ : MS) (a1 : Int32) (H : Heap) (locs : List Loc) (ls : Array Slot) (hS : gSt (MWd g) (MA g) s σ H locs) (hl : lv_has ls 3 [(0, .ref (mad g 62)), (1, .int a1)]) (h : wM_hour post σ a1) : W p l e rM_hour s m args below meth c H locs 0 0 (MQ below (va_Qi post (gB (MWd g)) (MA g)) args s 0 0 (MA g)) (F0 m 0 ls []) := by
  have hx := F.hx
  have hb := F.hb
  have hts := F.1.2.2.2.2
  have hown := F.1.2.2.2.1
  rw [wM_hour] at h
  refine lv_iload_n hx hb dX3_hour_0 rfl (lv_at hl 1 rfl) ?_
  refine lv_i2l hx hb dX3_hour_1 rfl ?_
  refine lv_lconst (v := 1) hx hb dX3_hour_2 (by decide) ?_
  refine lv_ldc2 (v := 200) hx hb hown (hts _ q1766) dX3_hour_3 ?_
  refine gw_callSi (As := [.long a1.toInt64, .long 1, .long 200]) (rest := []) F hS (tM_in l g hO σ a1.toInt64 1 200 _ h) (va_cwS 3 hts (lw_S q1593 q1594 q90 q1595) rfl rfl rfl (by decide +kernel) ⟨Nat.le_of_ble_eq_true rfl, Nat.le_of_ble_eq_true rfl⟩) rfl hl.1 rfl (Nat.le_of_ble_eq_true rfl) dX3_hour_6 ⟨Nat.le_refl 0, Nat.le_refl 0⟩ (fun r2 s1 H locs h hS => ?_)
  obtain ⟨zr2, h⟩ := h
  refine lv_if_ne (tgt := 14) hx hb dX3_hour_9 (by decide) (fun c3 => ?_) (fun c3 => ?_)
  · have h := h.1 c3
    refine lv_aload_n hx hb dX3_hour_14 rfl (lv_at hl 0 rfl) ?_
    refine m_geti F hO hS 0 (by decide) rfl q1397 dX3_hour_15 ?_
    refine lv_iload_n hx hb dX3_hour_18 rfl (lv_at hl 1 rfl) ?_
    refine lv_iadd hx hb dX3_hour_19 ?_
    refine lv_sipush (v := 9999) hx hb dX3_hour_20 (by decide) ?_
    refine lv_icmp_le (tgt := 29) hx hb dX3_hour_23 (by decide) (fun c4 => ?_) (fun c4 => ?_)
    · have h := h.1 c4
      refine lv_aload_n hx hb dX3_hour_29 rfl (lv_at hl 0 rfl) ?_
      refine lv_dup hx hb dX3_hour_30 rfl ?_
      refine m_geti F hO hS 0 (by decide) rfl q1397 dX3_hour_31 ?_
      refine lv_iload_n hx hb dX3_hour_34 rfl (lv_at hl 1 rfl) ?_
      refine lv_iadd hx hb dX3_hour_35 ?_
      refine m_puti F hO hS 0 (by decide) rfl q1397 rfl (by decide +kernel) dX3_hour_36 (fun s5 es5 H locs hS => ?_)
      have h := h s5 es5
      refine lv_iconst (v := 0) hx hb dX3_hour_39 (by decide) ?_
      refine lv_istore_n (lv' := [(2, .int 0), (0, .ref (mad g 62)), (1, .int a1)]) hx hb dX3_hour_40 rfl hl (by decide) rfl (fun ls hl => ?_)
      obtain ⟨n19, h⟩ := h
      exact (kM_hour_L41 F hO n19) s5 0 H locs ls hS (lv_sub hl [1, 0] rfl) h
    · have h := h.2 c4
      refine lv_bipush (v := (-2)) hx hb dX3_hour_26 (by decide) ?_
      exact gw_iret F hS h dX3_hour_28
  · have h := h.2 c3
    refine lv_iconst (v := (-1)) hx hb dX3_hour_12 (by decide) ?_
    exact gw_iret F hS h dX3_hour_13
set_option maxHeartbeats 4000000 in
set_option maxRecDepth 100000 in
theorem tM_hour (l : Launch) (g : MG) (hO : MOK g) (σ : MS) (a1 : Int32) (post : Int32 → MS → Prop) (h : wM_hour post σ a1) : Met l yX3_hour (ws_ yX3_hour cX3_hour 3 (some .int)) rM_hour (va_Pc [.ref (mad g 62), .int a1] (gPre (MWd g) (mD g) (mcl g) (mty g) σ)) (va_Qi post (gB (MWd g)) (MA g)) 0 0 (MA g) := by
  refine Met.ofW (cc := cX3_hour) (maxL := 3) (ret := (some .int)) (by decide) rfl ?_
  intro p e s m args below meth c s₁ B hml hv
  obtain ⟨rfl, hW, hK⟩ := hv
  have hts := atoms_spec (ws := (ws_ yX3_hour cX3_hour 3 (some .int))) B.pre
  have hts : ∀ w ∈ lw_all, w.before _ s = true := fun w h => hts w (List.mem_cons_of_mem _ h)
  have hl := lv_entry ([.ref (mad g 62), .int a1]) (n := 3) (Nat.le_of_ble_eq_true rfl)
  rw [lg_entry_eq]
  generalize (lg_sl ([.ref (mad g 62), .int a1]) ++ List.replicate (3 - (lg_sl ([.ref (mad g 62), .int a1])).length) Slot.unset).toArray = ls at hl ⊢
  exact kM_hour ⟨⟨B.exec, B.bytes, hml, findClass_of_methodNamed B.named, hts⟩, hK, B.returns, B.notSynchronized⟩ hO σ a1 s.heap [] ls ⟨hW, va_S.rf⟩ hl h
def wM_hasScent (post : Int32 → MS → Prop) (σ : MS) (a1 : Int32) : Prop := (vp_in a1 16 ∧ (((¬ ((σ 24 a1.toNatClampNeg) < 0) → vp_in a1 16)) ∧ ∀ v4 : Int32, v4 = (if (σ 24 a1.toNatClampNeg) < 0 then 0 else if 12 < ((σ 0 0) - (σ 26 a1.toNatClampNeg)) then 0 else 1) → post v4 σ))
abbrev rM_hasScent : Room := { frames := 0, cells := 0, slots := 0, locals := 0 }
set_option maxHeartbeats 4000000 in
set_option maxRecDepth 100000 in
theorem kM_hasScent {p : Program} {l : Launch} {e : Env} {s : State} {m : MethodId} {args : Array Value} {below : List Frame} {meth : Method} {c : Code} {g : MG} {post : Int32 → MS → Prop} (F : gFx p s m c meth args cX3_hasScent 2 RX3 (some .boolean) (mD g) (mcl g) (mty g)) (hO : MOK g) (σ : MS) (a1 : Int32) (H : Heap) (locs : List Loc) (ls : Array Slot) (hS : gSt (MWd g) (MA g) s σ H locs) (hl : lv_has ls 2 [(0, .ref (mad g 62)), (1, .int a1)]) (h : wM_hasScent post σ a1) : W p l e rM_hasScent s m args below meth c H locs 0 0 (MQ below (va_Qi (zpost post) (gB (MWd g)) (MA g)) args s 0 0 (MA g)) (F0 m 0 ls []) := by
  have hx := F.hx
  have hb := F.hb
  have hts := F.1.2.2.2.2
  have hown := F.1.2.2.2.1
  rw [wM_hasScent] at h
  refine lv_aload_n hx hb dX3_hasScent_0 rfl (lv_at hl 0 rfl) ?_
  refine m_geta F hO hS 24 (by decide) rfl q1421 dX3_hasScent_1 ?_
  refine lv_iload_n hx hb dX3_hasScent_4 rfl (lv_at hl 1 rfl) ?_
  obtain ⟨b1, h⟩ := h
  refine m_iald F hS 24 20 rfl rfl b1 dX3_hasScent_5 ?_
  obtain ⟨b5, h⟩ := h
  refine gcut (P := ∀ (v4 : Int32) (H : Heap) (locs : List Loc) (ls : Array Slot), v4 = (if (σ 24 a1.toNatClampNeg) < 0 then 0 else if 12 < ((σ 0 0) - (σ 26 a1.toNatClampNeg)) then 0 else 1) → gSt (MWd g) (MA g) s σ H locs → lv_has ls 2 [] → W p l e rM_hasScent s m args below meth c H locs 0 0 (MQ below (va_Qi (zpost post) (gB (MWd g)) (MA g)) args s 0 0 (MA g)) (F0 m 30 ls [.int v4])) (fun v4 H locs ls ev4 hS hl => ?_) (fun J6 => ?_)
  · have h := h v4 ev4
    exact gw_zret F hS (by rw [ev4]; exact (bz_ite bz0 (bz_ite bz0 bz1))) h dX3_hasScent_30
  · refine lv_if_lt (tgt := 29) hx hb dX3_hasScent_6 (by decide) (fun c2 => ?_) (fun c2 => ?_)
    · refine lv_iconst (v := 0) hx hb dX3_hasScent_29 (by decide) ?_
      exact J6 _ H locs ls (by first | with_reducible rfl | ((try rw [if_pos c2]); done)) hS (lv_sub hl [] rfl)
    · refine lv_aload_n hx hb dX3_hasScent_9 rfl (lv_at hl 0 rfl) ?_
      refine m_geti F hO hS 0 (by decide) rfl q1397 dX3_hasScent_10 ?_
      refine lv_aload_n hx hb dX3_hasScent_13 rfl (lv_at hl 0 rfl) ?_
      refine m_geta F hO hS 26 (by decide) rfl q1423 dX3_hasScent_14 ?_
      refine lv_iload_n hx hb dX3_hasScent_17 rfl (lv_at hl 1 rfl) ?_
      refine m_iald F hS 26 22 rfl rfl ((b5 c2)) dX3_hasScent_18 ?_
      refine lv_isub hx hb dX3_hasScent_19 ?_
      refine lv_bipush (v := 12) hx hb dX3_hasScent_20 (by decide) ?_
      refine lv_icmp_gt (tgt := 29) hx hb dX3_hasScent_22 (by decide) (fun c3 => ?_) (fun c3 => ?_)
      · refine lv_iconst (v := 0) hx hb dX3_hasScent_29 (by decide) ?_
        exact J6 _ H locs ls (by first | with_reducible rfl | ((try rw [if_neg c2]); (try rw [if_pos c3]); done)) hS (lv_sub hl [] rfl)
      · refine lv_iconst (v := 1) hx hb dX3_hasScent_25 (by decide) ?_
        refine lv_goto (tgt := 30) hx hb dX3_hasScent_26 (by decide) ?_
        exact J6 _ H locs ls (by first | with_reducible rfl | ((try rw [if_neg c2]); (try rw [if_neg c3]); done)) hS (lv_sub hl [] rfl)
set_option maxHeartbeats 4000000 in
set_option maxRecDepth 100000 in
theorem tM_hasScent (l : Launch) (g : MG) (hO : MOK g) (σ : MS) (a1 : Int32) (post : Int32 → MS → Prop) (h : wM_hasScent post σ a1) : Met l yX3_hasScent (ws_ yX3_hasScent cX3_hasScent 2 (some .boolean)) rM_hasScent (va_Pc [.ref (mad g 62), .int a1] (gPre (MWd g) (mD g) (mcl g) (mty g) σ)) (va_Qi (zpost post) (gB (MWd g)) (MA g)) 0 0 (MA g) := by
  refine Met.ofW (cc := cX3_hasScent) (maxL := 2) (ret := (some .boolean)) (by decide) rfl ?_
  intro p e s m args below meth c s₁ B hml hv
  obtain ⟨rfl, hW, hK⟩ := hv
  have hts := atoms_spec (ws := (ws_ yX3_hasScent cX3_hasScent 2 (some .boolean))) B.pre
  have hts : ∀ w ∈ lw_all, w.before _ s = true := fun w h => hts w (List.mem_cons_of_mem _ h)
  have hl := lv_entry ([.ref (mad g 62), .int a1]) (n := 2) (Nat.le_of_ble_eq_true rfl)
  rw [lg_entry_eq]
  generalize (lg_sl ([.ref (mad g 62), .int a1]) ++ List.replicate (2 - (lg_sl ([.ref (mad g 62), .int a1])).length) Slot.unset).toArray = ls at hl ⊢
  exact kM_hasScent ⟨⟨B.exec, B.bytes, hml, findClass_of_methodNamed B.named, hts⟩, hK, B.returns, B.notSynchronized⟩ hO σ a1 s.heap [] ls ⟨hW, va_S.rf⟩ hl h
def wM_rain_L4 (post : Int32 → MS → Prop) : Nat → MS → Int32 → Int32 → Prop
  | 0, _, _, _ => False
  | n + 1, σ, x1, x2 => ((σ 18 0) ≤ x2 → post x1 σ) ∧ (¬ ((σ 18 0) ≤ x2) → wM_hasScent (fun r5 s4 => (∀ v7 : Int32, v7 = (if r5 = 0 then 0 else 1) → (∀ x9 : Int32, x9 = x1 + v7 → vp_in x2 16 ∧ ∀ s10 : MS, s10 = up2 s4 24 x2.toNatClampNeg (-1) → ∀ x12 : Int32, x12 = x2 + 1 → wM_rain_L4 post n s10 x9 x12))) σ x2)
def wM_rain (post : Int32 → MS → Prop) (σ : MS) : Prop := ∃ n13, wM_rain_L4 post n13 σ 0 0
abbrev rM_rain : Room := { frames := 1, cells := 0, slots := 0, locals := 21 }
set_option maxHeartbeats 4000000 in
set_option maxRecDepth 100000 in
theorem kM_rain_L4 {p : Program} {l : Launch} {e : Env} {s : State} {m : MethodId} {args : Array Value} {below : List Frame} {meth : Method} {c : Code} {g : MG} {post : Int32 → MS → Prop} (F : gFx p s m c meth args cX3_rain 3 RX3 (some .int) (mD g) (mcl g) (mty g)) (hO : MOK g) : ∀ (n : Nat) (σ : MS) (x1 : Int32) (x2 : Int32) (H : Heap) (locs : List Loc) (ls : Array Slot), gSt (MWd g) (MA g) s σ H locs → lv_has ls 3 [(0, .ref (mad g 62)), (1, .int x1), (2, .int x2)] → wM_rain_L4 post n σ x1 x2 → W p l e rM_rain s m args below meth c H locs 0 0 (MQ below (va_Qi post (gB (MWd g)) (MA g)) args s 0 0 (MA g)) (F0 m 4 ls []) := by
  have hx := F.hx
  have hb := F.hb
  have hts := F.1.2.2.2.2
  have hown := F.1.2.2.2.1
  intro n
  induction n with
  | zero =>
    intro σ x1 x2 H locs ls hS hl h
    exact False.elim h
  | succ n ih =>
    intro σ x1 x2 H locs ls hS hl h
    rw [wM_rain_L4] at h
    refine lv_iload_n hx hb dX3_rain_4 rfl (lv_at hl 2 rfl) ?_
    refine lv_aload_n hx hb dX3_rain_5 rfl (lv_at hl 0 rfl) ?_
    refine m_geti F hO hS 18 (by decide) rfl q1415 dX3_rain_6 ?_
    refine lv_icmp_ge (tgt := 41) hx hb dX3_rain_9 (by decide) (fun c3 => ?_) (fun c3 => ?_)
    · have h := h.1 c3
      refine lv_iload_n hx hb dX3_rain_41 rfl (lv_at hl 1 rfl) ?_
      exact gw_iret F hS h dX3_rain_42
    · have h := h.2 c3
      refine lv_iload_n hx hb dX3_rain_12 rfl (lv_at hl 1 rfl) ?_
      refine lv_aload_n hx hb dX3_rain_13 rfl (lv_at hl 0 rfl) ?_
      refine lv_iload_n hx hb dX3_rain_14 rfl (lv_at hl 2 rfl) ?_
      refine gw_callVi (As := [.int x2]) (rest := [.int x1]) F hS (tM_hasScent l g hO σ x2 _ h) (cwV 1 hts (lw_V q1771 q1773 qs58 q90 q1774) rfl rfl rfl (by decide +kernel) ⟨Nat.le_of_ble_eq_true rfl, Nat.le_of_ble_eq_true rfl⟩) (m_rec F hO hS) rfl hl.1 rfl (Nat.le_of_ble_eq_true rfl) dX3_rain_15 ⟨Nat.le_refl 0, Nat.le_refl 0⟩ (fun r5 s4 H locs h hS => ?_)
      obtain ⟨zr5, h⟩ := h
      refine gcut (P := ∀ (v7 : Int32) (H : Heap) (locs : List Loc) (ls : Array Slot), v7 = (if r5 = 0 then 0 else 1) → gSt (MWd g) (MA g) s s4 H locs → lv_has ls 3 [(0, .ref (mad g 62)), (2, .int x2)] → W p l e rM_rain s m args below meth c H locs 0 0 (MQ below (va_Qi post (gB (MWd g)) (MA g)) args s 0 0 (MA g)) (F0 m 26 ls [.int v7, .int x1])) (fun v7 H locs ls ev7 hS hl => ?_) (fun J8 => ?_)
      · have h := h v7 ev7
        refine lv_iadd hx hb dX3_rain_26 ?_
        refine lv_topi (fun x9 ex9 => ?_)
        have h := h x9 ex9
        refine lv_istore_n (lv' := [(1, .int x9), (0, .ref (mad g 62)), (2, .int x2)]) hx hb dX3_rain_27 rfl hl (by decide) rfl (fun ls hl => ?_)
        refine lv_aload_n hx hb dX3_rain_28 rfl (lv_at hl 1 rfl) ?_
        refine m_geta F hO hS 24 (by decide) rfl q1421 dX3_rain_29 ?_
        refine lv_iload_n hx hb dX3_rain_32 rfl (lv_at hl 2 rfl) ?_
        refine lv_iconst (v := (-1)) hx hb dX3_rain_33 (by decide) ?_
        obtain ⟨b11, h⟩ := h
        refine m_iast F hO hS 24 20 rfl rfl b11 dX3_rain_34 (fun s10 es10 H locs hS => ?_)
        have h := h s10 es10
        obtain ⟨x12, ex12⟩ : ∃ y : Int32, y = x2 + 1 := ⟨_, rfl⟩
        have h := h x12 ex12
        refine lv_iinc (v := x12) (lv' := [(2, .int x12), (1, .int x9), (0, .ref (mad g 62))]) hx hb dX3_rain_35 hl (k := 2) rfl (by rw [ex12]; rfl) (by decide) rfl (fun ls hl => ?_)
        refine lv_goto (tgt := 4) hx hb dX3_rain_38 (by decide) ?_
        exact ih s10 x9 x12 H locs ls hS (lv_sub hl [2, 1, 0] rfl) h
      · refine lv_if_eq (tgt := 25) hx hb dX3_rain_18 (by decide) (fun c6 => ?_) (fun c6 => ?_)
        · refine lv_iconst (v := 0) hx hb dX3_rain_25 (by decide) ?_
          exact J8 _ H locs ls (by first | with_reducible rfl | ((try rw [if_pos c6]); done)) hS (lv_sub hl [0, 2] rfl)
        · refine lv_iconst (v := 1) hx hb dX3_rain_21 (by decide) ?_
          refine lv_goto (tgt := 26) hx hb dX3_rain_22 (by decide) ?_
          exact J8 _ H locs ls (by first | with_reducible rfl | ((try rw [if_neg c6]); done)) hS (lv_sub hl [0, 2] rfl)
set_option maxHeartbeats 4000000 in
set_option maxRecDepth 100000 in
theorem kM_rain {p : Program} {l : Launch} {e : Env} {s : State} {m : MethodId} {args : Array Value} {below : List Frame} {meth : Method} {c : Code} {g : MG} {post : Int32 → MS → Prop} (F : gFx p s m c meth args cX3_rain 3 RX3 (some .int) (mD g) (mcl g) (mty g)) (hO : MOK g) (σ : MS) (H : Heap) (locs : List Loc) (ls : Array Slot) (hS : gSt (MWd g) (MA g) s σ H locs) (hl : lv_has ls 3 [(0, .ref (mad g 62))]) (h : wM_rain post σ) : W p l e rM_rain s m args below meth c H locs 0 0 (MQ below (va_Qi post (gB (MWd g)) (MA g)) args s 0 0 (MA g)) (F0 m 0 ls []) := by
  have hx := F.hx
  have hb := F.hb
  have hts := F.1.2.2.2.2
  have hown := F.1.2.2.2.1
  rw [wM_rain] at h
  refine lv_iconst (v := 0) hx hb dX3_rain_0 (by decide) ?_
  refine lv_istore_n (lv' := [(1, .int 0), (0, .ref (mad g 62))]) hx hb dX3_rain_1 rfl hl (by decide) rfl (fun ls hl => ?_)
  refine lv_iconst (v := 0) hx hb dX3_rain_2 (by decide) ?_
  refine lv_istore_n (lv' := [(2, .int 0), (1, .int 0), (0, .ref (mad g 62))]) hx hb dX3_rain_3 rfl hl (by decide) rfl (fun ls hl => ?_)
  obtain ⟨n13, h⟩ := h
  exact (kM_rain_L4 F hO n13) σ 0 0 H locs ls hS (lv_sub hl [2, 1, 0] rfl) h
set_option maxHeartbeats 4000000 in
set_option maxRecDepth 100000 in
theorem tM_rain (l : Launch) (g : MG) (hO : MOK g) (σ : MS) (post : Int32 → MS → Prop) (h : wM_rain post σ) : Met l yX3_rain (ws_ yX3_rain cX3_rain 3 (some .int)) rM_rain (va_Pc [.ref (mad g 62)] (gPre (MWd g) (mD g) (mcl g) (mty g) σ)) (va_Qi post (gB (MWd g)) (MA g)) 0 0 (MA g) := by
  refine Met.ofW (cc := cX3_rain) (maxL := 3) (ret := (some .int)) (by decide) rfl ?_
  intro p e s m args below meth c s₁ B hml hv
  obtain ⟨rfl, hW, hK⟩ := hv
  have hts := atoms_spec (ws := (ws_ yX3_rain cX3_rain 3 (some .int))) B.pre
  have hts : ∀ w ∈ lw_all, w.before _ s = true := fun w h => hts w (List.mem_cons_of_mem _ h)
  have hl := lv_entry ([.ref (mad g 62)]) (n := 3) (Nat.le_of_ble_eq_true rfl)
  rw [lg_entry_eq]
  generalize (lg_sl ([.ref (mad g 62)]) ++ List.replicate (3 - (lg_sl ([.ref (mad g 62)])).length) Slot.unset).toArray = ls at hl ⊢
  exact kM_rain ⟨⟨B.exec, B.bytes, hml, findClass_of_methodNamed B.named, hts⟩, hK, B.returns, B.notSynchronized⟩ hO σ s.heap [] ls ⟨hW, va_S.rf⟩ hl h
def wM_hunter (post : Int32 → MS → Prop) (σ : MS) (a1 : Int32) : Prop := wM_isPlace (fun r2 s1 => (¬ (r2 = 0) → (¬ ((s1 27 0) = 6) → (vp_in (s1 27 0) 6 ∧ ∀ s5 : MS, s5 = up2 s1 28 (s1 27 0).toNatClampNeg a1 → vp_in (s5 27 0) 6 ∧ ∀ s7 : MS, s7 = up2 s5 29 (s5 27 0).toNatClampNeg 0 → ∀ s9 : MS, s9 = up2 s7 27 0 ((s7 27 0) + 1) → post ((s9 27 0) - 1) s9)) ∧ ((s1 27 0) = 6 → post (-3) s1)) ∧ (r2 = 0 → post (-1) s1)) σ a1
abbrev rM_hunter : Room := { frames := 2, cells := 0, slots := 0, locals := 46 }
set_option maxHeartbeats 4000000 in
set_option maxRecDepth 100000 in
theorem kM_hunter {p : Program} {l : Launch} {e : Env} {s : State} {m : MethodId} {args : Array Value} {below : List Frame} {meth : Method} {c : Code} {g : MG} {post : Int32 → MS → Prop} (F : gFx p s m c meth args cX3_hunter 2 RX3 (some .int) (mD g) (mcl g) (mty g)) (hO : MOK g) (σ : MS) (a1 : Int32) (H : Heap) (locs : List Loc) (ls : Array Slot) (hS : gSt (MWd g) (MA g) s σ H locs) (hl : lv_has ls 2 [(0, .ref (mad g 62)), (1, .int a1)]) (h : wM_hunter post σ a1) : W p l e rM_hunter s m args below meth c H locs 0 0 (MQ below (va_Qi post (gB (MWd g)) (MA g)) args s 0 0 (MA g)) (F0 m 0 ls []) := by
  have hx := F.hx
  have hb := F.hb
  have hts := F.1.2.2.2.2
  have hown := F.1.2.2.2.1
  rw [wM_hunter] at h
  refine lv_aload_n hx hb dX3_hunter_0 rfl (lv_at hl 0 rfl) ?_
  refine lv_iload_n hx hb dX3_hunter_1 rfl (lv_at hl 1 rfl) ?_
  refine gw_callVi (As := [.int a1]) (rest := []) F hS (tM_isPlace l g hO σ a1 _ h) (cwV 1 hts (lw_V q1618 q1620 qs40 q90 q1621) rfl rfl rfl (by decide +kernel) ⟨Nat.le_of_ble_eq_true rfl, Nat.le_of_ble_eq_true rfl⟩) (m_rec F hO hS) rfl hl.1 rfl (Nat.le_of_ble_eq_true rfl) dX3_hunter_2 ⟨Nat.le_refl 0, Nat.le_refl 0⟩ (fun r2 s1 H locs h hS => ?_)
  obtain ⟨zr2, h⟩ := h
  refine lv_if_ne (tgt := 10) hx hb dX3_hunter_5 (by decide) (fun c3 => ?_) (fun c3 => ?_)
  · have h := h.1 c3
    refine lv_aload_n hx hb dX3_hunter_10 rfl (lv_at hl 0 rfl) ?_
    refine m_geti F hO hS 27 (by decide) rfl q1424 dX3_hunter_11 ?_
    refine lv_bipush (v := 6) hx hb dX3_hunter_14 (by decide) ?_
    refine lv_icmp_ne (tgt := 22) hx hb dX3_hunter_16 (by decide) (fun c4 => ?_) (fun c4 => ?_)
    · have h := h.1 c4
      refine lv_aload_n hx hb dX3_hunter_22 rfl (lv_at hl 0 rfl) ?_
      refine m_geta F hO hS 28 (by decide) rfl q1425 dX3_hunter_23 ?_
      refine lv_aload_n hx hb dX3_hunter_26 rfl (lv_at hl 0 rfl) ?_
      refine m_geti F hO hS 27 (by decide) rfl q1424 dX3_hunter_27 ?_
      refine lv_iload_n hx hb dX3_hunter_30 rfl (lv_at hl 1 rfl) ?_
      obtain ⟨b6, h⟩ := h
      refine m_iast F hO hS 28 23 rfl rfl b6 dX3_hunter_31 (fun s5 es5 H locs hS => ?_)
      have h := h s5 es5
      refine lv_aload_n hx hb dX3_hunter_32 rfl (lv_at hl 0 rfl) ?_
      refine m_geta F hO hS 29 (by decide) rfl q1426 dX3_hunter_33 ?_
      refine lv_aload_n hx hb dX3_hunter_36 rfl (lv_at hl 0 rfl) ?_
      refine m_geti F hO hS 27 (by decide) rfl q1424 dX3_hunter_37 ?_
      refine lv_iconst (v := 0) hx hb dX3_hunter_40 (by decide) ?_
      obtain ⟨b8, h⟩ := h
      refine m_iast F hO hS 29 24 rfl rfl b8 dX3_hunter_41 (fun s7 es7 H locs hS => ?_)
      have h := h s7 es7
      refine lv_aload_n hx hb dX3_hunter_42 rfl (lv_at hl 0 rfl) ?_
      refine lv_dup hx hb dX3_hunter_43 rfl ?_
      refine m_geti F hO hS 27 (by decide) rfl q1424 dX3_hunter_44 ?_
      refine lv_iconst (v := 1) hx hb dX3_hunter_47 (by decide) ?_
      refine lv_iadd hx hb dX3_hunter_48 ?_
      refine m_puti F hO hS 27 (by decide) rfl q1424 rfl (by decide +kernel) dX3_hunter_49 (fun s9 es9 H locs hS => ?_)
      have h := h s9 es9
      refine lv_aload_n hx hb dX3_hunter_52 rfl (lv_at hl 0 rfl) ?_
      refine m_geti F hO hS 27 (by decide) rfl q1424 dX3_hunter_53 ?_
      refine lv_iconst (v := 1) hx hb dX3_hunter_56 (by decide) ?_
      refine lv_isub hx hb dX3_hunter_57 ?_
      exact gw_iret F hS h dX3_hunter_58
    · have h := h.2 c4
      refine lv_bipush (v := (-3)) hx hb dX3_hunter_19 (by decide) ?_
      exact gw_iret F hS h dX3_hunter_21
  · have h := h.2 c3
    refine lv_iconst (v := (-1)) hx hb dX3_hunter_8 (by decide) ?_
    exact gw_iret F hS h dX3_hunter_9
set_option maxHeartbeats 4000000 in
set_option maxRecDepth 100000 in
theorem tM_hunter (l : Launch) (g : MG) (hO : MOK g) (σ : MS) (a1 : Int32) (post : Int32 → MS → Prop) (h : wM_hunter post σ a1) : Met l yX3_hunter (ws_ yX3_hunter cX3_hunter 2 (some .int)) rM_hunter (va_Pc [.ref (mad g 62), .int a1] (gPre (MWd g) (mD g) (mcl g) (mty g) σ)) (va_Qi post (gB (MWd g)) (MA g)) 0 0 (MA g) := by
  refine Met.ofW (cc := cX3_hunter) (maxL := 2) (ret := (some .int)) (by decide) rfl ?_
  intro p e s m args below meth c s₁ B hml hv
  obtain ⟨rfl, hW, hK⟩ := hv
  have hts := atoms_spec (ws := (ws_ yX3_hunter cX3_hunter 2 (some .int))) B.pre
  have hts : ∀ w ∈ lw_all, w.before _ s = true := fun w h => hts w (List.mem_cons_of_mem _ h)
  have hl := lv_entry ([.ref (mad g 62), .int a1]) (n := 2) (Nat.le_of_ble_eq_true rfl)
  rw [lg_entry_eq]
  generalize (lg_sl ([.ref (mad g 62), .int a1]) ++ List.replicate (2 - (lg_sl ([.ref (mad g 62), .int a1])).length) Slot.unset).toArray = ls at hl ⊢
  exact kM_hunter ⟨⟨B.exec, B.bytes, hml, findClass_of_methodNamed B.named, hts⟩, hK, B.returns, B.notSynchronized⟩ hO σ a1 s.heap [] ls ⟨hW, va_S.rf⟩ hl h
def wM_isHunter (post : Int32 → MS → Prop) (σ : MS) (a1 : Int32) : Prop := wM_in (fun r2 s1 => post r2 s1) σ a1.toInt64 0 (((σ 27 0) - 1).toInt64)
abbrev rM_isHunter : Room := { frames := 1, cells := 0, slots := 0, locals := 25 }
set_option maxHeartbeats 4000000 in
set_option maxRecDepth 100000 in
theorem kM_isHunter {p : Program} {l : Launch} {e : Env} {s : State} {m : MethodId} {args : Array Value} {below : List Frame} {meth : Method} {c : Code} {g : MG} {post : Int32 → MS → Prop} (F : gFx p s m c meth args cX3_isHunter 2 RX3 (some .boolean) (mD g) (mcl g) (mty g)) (hO : MOK g) (σ : MS) (a1 : Int32) (H : Heap) (locs : List Loc) (ls : Array Slot) (hS : gSt (MWd g) (MA g) s σ H locs) (hl : lv_has ls 2 [(0, .ref (mad g 62)), (1, .int a1)]) (h : wM_isHunter post σ a1) : W p l e rM_isHunter s m args below meth c H locs 0 0 (MQ below (va_Qi (zpost post) (gB (MWd g)) (MA g)) args s 0 0 (MA g)) (F0 m 0 ls []) := by
  have hx := F.hx
  have hb := F.hb
  have hts := F.1.2.2.2.2
  have hown := F.1.2.2.2.1
  rw [wM_isHunter] at h
  refine lv_iload_n hx hb dX3_isHunter_0 rfl (lv_at hl 1 rfl) ?_
  refine lv_i2l hx hb dX3_isHunter_1 rfl ?_
  refine lv_lconst (v := 0) hx hb dX3_isHunter_2 (by decide) ?_
  refine lv_aload_n hx hb dX3_isHunter_3 rfl (lv_at hl 0 rfl) ?_
  refine m_geti F hO hS 27 (by decide) rfl q1424 dX3_isHunter_4 ?_
  refine lv_iconst (v := 1) hx hb dX3_isHunter_7 (by decide) ?_
  refine lv_isub hx hb dX3_isHunter_8 ?_
  refine lv_i2l hx hb dX3_isHunter_9 rfl ?_
  refine gw_callSi (As := [.long a1.toInt64, .long 0, .long (((σ 27 0) - 1).toInt64)]) (rest := []) F hS (tM_in l g hO σ a1.toInt64 0 (((σ 27 0) - 1).toInt64) _ h) (va_cwS 3 hts (lw_S q1593 q1594 q90 q1595) rfl rfl rfl (by decide +kernel) ⟨Nat.le_of_ble_eq_true rfl, Nat.le_of_ble_eq_true rfl⟩) rfl hl.1 rfl (Nat.le_of_ble_eq_true rfl) dX3_isHunter_10 ⟨Nat.le_refl 0, Nat.le_refl 0⟩ (fun r2 s1 H locs h hS => ?_)
  obtain ⟨zr2, h⟩ := h
  exact gw_zret F hS zr2 h dX3_isHunter_13
set_option maxHeartbeats 4000000 in
set_option maxRecDepth 100000 in
theorem tM_isHunter (l : Launch) (g : MG) (hO : MOK g) (σ : MS) (a1 : Int32) (post : Int32 → MS → Prop) (h : wM_isHunter post σ a1) : Met l yX3_isHunter (ws_ yX3_isHunter cX3_isHunter 2 (some .boolean)) rM_isHunter (va_Pc [.ref (mad g 62), .int a1] (gPre (MWd g) (mD g) (mcl g) (mty g) σ)) (va_Qi (zpost post) (gB (MWd g)) (MA g)) 0 0 (MA g) := by
  refine Met.ofW (cc := cX3_isHunter) (maxL := 2) (ret := (some .boolean)) (by decide) rfl ?_
  intro p e s m args below meth c s₁ B hml hv
  obtain ⟨rfl, hW, hK⟩ := hv
  have hts := atoms_spec (ws := (ws_ yX3_isHunter cX3_isHunter 2 (some .boolean))) B.pre
  have hts : ∀ w ∈ lw_all, w.before _ s = true := fun w h => hts w (List.mem_cons_of_mem _ h)
  have hl := lv_entry ([.ref (mad g 62), .int a1]) (n := 2) (Nat.le_of_ble_eq_true rfl)
  rw [lg_entry_eq]
  generalize (lg_sl ([.ref (mad g 62), .int a1]) ++ List.replicate (2 - (lg_sl ([.ref (mad g 62), .int a1])).length) Slot.unset).toArray = ls at hl ⊢
  exact kM_isHunter ⟨⟨B.exec, B.bytes, hml, findClass_of_methodNamed B.named, hts⟩, hK, B.returns, B.notSynchronized⟩ hO σ a1 s.heap [] ls ⟨hW, va_S.rf⟩ hl h
def wM_ride (post : Int32 → MS → Prop) (σ : MS) (a1 : Int32) (a2 : Int32) : Prop := wM_isHunter (fun r2 s1 => (r2 = 0 → post (-1) s1) ∧ (¬ (r2 = 0) → wM_isPlace (fun r5 s4 => (¬ (r5 = 0) → (vp_in a1 6 ∧ ∀ x8 : Int32, x8 = s4 28 a1.toNatClampNeg → vp_in a1 6 ∧ ∀ s9 : MS, s9 = up2 s4 28 a1.toNatClampNeg a2 → post x8 s9)) ∧ (r5 = 0 → post (-1) s4)) s1 a2)) σ a1
abbrev rM_ride : Room := { frames := 2, cells := 0, slots := 0, locals := 46 }
set_option maxHeartbeats 4000000 in
set_option maxRecDepth 100000 in
theorem kM_ride {p : Program} {l : Launch} {e : Env} {s : State} {m : MethodId} {args : Array Value} {below : List Frame} {meth : Method} {c : Code} {g : MG} {post : Int32 → MS → Prop} (F : gFx p s m c meth args cX3_ride 4 RX3 (some .int) (mD g) (mcl g) (mty g)) (hO : MOK g) (σ : MS) (a1 : Int32) (a2 : Int32) (H : Heap) (locs : List Loc) (ls : Array Slot) (hS : gSt (MWd g) (MA g) s σ H locs) (hl : lv_has ls 4 [(0, .ref (mad g 62)), (1, .int a1), (2, .int a2)]) (h : wM_ride post σ a1 a2) : W p l e rM_ride s m args below meth c H locs 0 0 (MQ below (va_Qi post (gB (MWd g)) (MA g)) args s 0 0 (MA g)) (F0 m 0 ls []) := by
  have hx := F.hx
  have hb := F.hb
  have hts := F.1.2.2.2.2
  have hown := F.1.2.2.2.1
  rw [wM_ride] at h
  refine lv_aload_n hx hb dX3_ride_0 rfl (lv_at hl 0 rfl) ?_
  refine lv_iload_n hx hb dX3_ride_1 rfl (lv_at hl 1 rfl) ?_
  refine gw_callVi (As := [.int a1]) (rest := []) F hS (tM_isHunter l g hO σ a1 _ h) (cwV 1 hts (lw_V q1783 q1785 qs59 q90 q1786) rfl rfl rfl (by decide +kernel) ⟨Nat.le_of_ble_eq_true rfl, Nat.le_of_ble_eq_true rfl⟩) (m_rec F hO hS) rfl hl.1 rfl (Nat.le_of_ble_eq_true rfl) dX3_ride_2 ⟨Nat.le_refl 0, Nat.le_refl 0⟩ (fun r2 s1 H locs h hS => ?_)
  obtain ⟨zr2, h⟩ := h
  refine lv_if_eq (tgt := 16) hx hb dX3_ride_5 (by decide) (fun c3 => ?_) (fun c3 => ?_)
  · have h := h.1 c3
    refine lv_iconst (v := (-1)) hx hb dX3_ride_16 (by decide) ?_
    exact gw_iret F hS h dX3_ride_17
  · have h := h.2 c3
    refine lv_aload_n hx hb dX3_ride_8 rfl (lv_at hl 0 rfl) ?_
    refine lv_iload_n hx hb dX3_ride_9 rfl (lv_at hl 2 rfl) ?_
    refine gw_callVi (As := [.int a2]) (rest := []) F hS (tM_isPlace l g hO s1 a2 _ h) (cwV 1 hts (lw_V q1618 q1620 qs40 q90 q1621) rfl rfl rfl (by decide +kernel) ⟨Nat.le_of_ble_eq_true rfl, Nat.le_of_ble_eq_true rfl⟩) (m_rec F hO hS) rfl hl.1 rfl (Nat.le_of_ble_eq_true rfl) dX3_ride_10 ⟨Nat.le_refl 0, Nat.le_refl 0⟩ (fun r5 s4 H locs h hS => ?_)
    obtain ⟨zr5, h⟩ := h
    refine lv_if_ne (tgt := 18) hx hb dX3_ride_13 (by decide) (fun c6 => ?_) (fun c6 => ?_)
    · have h := h.1 c6
      refine lv_aload_n hx hb dX3_ride_18 rfl (lv_at hl 0 rfl) ?_
      refine m_geta F hO hS 28 (by decide) rfl q1425 dX3_ride_19 ?_
      refine lv_iload_n hx hb dX3_ride_22 rfl (lv_at hl 1 rfl) ?_
      obtain ⟨b7, h⟩ := h
      refine m_iald F hS 28 23 rfl rfl b7 dX3_ride_23 ?_
      refine lv_topi (fun x8 ex8 => ?_)
      have h := h x8 ex8
      refine lv_istore_n (lv' := [(3, .int x8), (0, .ref (mad g 62)), (1, .int a1), (2, .int a2)]) hx hb dX3_ride_24 rfl hl (by decide) rfl (fun ls hl => ?_)
      refine lv_aload_n hx hb dX3_ride_25 rfl (lv_at hl 1 rfl) ?_
      refine m_geta F hO hS 28 (by decide) rfl q1425 dX3_ride_26 ?_
      refine lv_iload_n hx hb dX3_ride_29 rfl (lv_at hl 2 rfl) ?_
      refine lv_iload_n hx hb dX3_ride_30 rfl (lv_at hl 3 rfl) ?_
      obtain ⟨b10, h⟩ := h
      refine m_iast F hO hS 28 23 rfl rfl b10 dX3_ride_31 (fun s9 es9 H locs hS => ?_)
      have h := h s9 es9
      refine lv_iload_n hx hb dX3_ride_32 rfl (lv_at hl 0 rfl) ?_
      exact gw_iret F hS h dX3_ride_33
    · have h := h.2 c6
      refine lv_iconst (v := (-1)) hx hb dX3_ride_16 (by decide) ?_
      exact gw_iret F hS h dX3_ride_17
set_option maxHeartbeats 4000000 in
set_option maxRecDepth 100000 in
theorem tM_ride (l : Launch) (g : MG) (hO : MOK g) (σ : MS) (a1 : Int32) (a2 : Int32) (post : Int32 → MS → Prop) (h : wM_ride post σ a1 a2) : Met l yX3_ride (ws_ yX3_ride cX3_ride 4 (some .int)) rM_ride (va_Pc [.ref (mad g 62), .int a1, .int a2] (gPre (MWd g) (mD g) (mcl g) (mty g) σ)) (va_Qi post (gB (MWd g)) (MA g)) 0 0 (MA g) := by
  refine Met.ofW (cc := cX3_ride) (maxL := 4) (ret := (some .int)) (by decide) rfl ?_
  intro p e s m args below meth c s₁ B hml hv
  obtain ⟨rfl, hW, hK⟩ := hv
  have hts := atoms_spec (ws := (ws_ yX3_ride cX3_ride 4 (some .int))) B.pre
  have hts : ∀ w ∈ lw_all, w.before _ s = true := fun w h => hts w (List.mem_cons_of_mem _ h)
  have hl := lv_entry ([.ref (mad g 62), .int a1, .int a2]) (n := 4) (Nat.le_of_ble_eq_true rfl)
  rw [lg_entry_eq]
  generalize (lg_sl ([.ref (mad g 62), .int a1, .int a2]) ++ List.replicate (4 - (lg_sl ([.ref (mad g 62), .int a1, .int a2])).length) Slot.unset).toArray = ls at hl ⊢
  exact kM_ride ⟨⟨B.exec, B.bytes, hml, findClass_of_methodNamed B.named, hts⟩, hK, B.returns, B.notSynchronized⟩ hO σ a1 a2 s.heap [] ls ⟨hW, va_S.rf⟩ hl h
def wM_arePersons (post : Int32 → MS → Prop) (σ : MS) (a1 : Int32) : Prop := wM_in (fun r2 s1 => post r2 s1) σ a1.toInt64 0 ((((1 : Int32) <<< ((σ 18 0) &&& 31)) - 1).toInt64)
abbrev rM_arePersons : Room := { frames := 1, cells := 0, slots := 0, locals := 25 }
set_option maxHeartbeats 4000000 in
set_option maxRecDepth 100000 in
theorem kM_arePersons {p : Program} {l : Launch} {e : Env} {s : State} {m : MethodId} {args : Array Value} {below : List Frame} {meth : Method} {c : Code} {g : MG} {post : Int32 → MS → Prop} (F : gFx p s m c meth args cX3_arePersons 2 RX3 (some .boolean) (mD g) (mcl g) (mty g)) (hO : MOK g) (σ : MS) (a1 : Int32) (H : Heap) (locs : List Loc) (ls : Array Slot) (hS : gSt (MWd g) (MA g) s σ H locs) (hl : lv_has ls 2 [(0, .ref (mad g 62)), (1, .int a1)]) (h : wM_arePersons post σ a1) : W p l e rM_arePersons s m args below meth c H locs 0 0 (MQ below (va_Qi (zpost post) (gB (MWd g)) (MA g)) args s 0 0 (MA g)) (F0 m 0 ls []) := by
  have hx := F.hx
  have hb := F.hb
  have hts := F.1.2.2.2.2
  have hown := F.1.2.2.2.1
  rw [wM_arePersons] at h
  refine lv_iload_n hx hb dX3_arePersons_0 rfl (lv_at hl 1 rfl) ?_
  refine lv_i2l hx hb dX3_arePersons_1 rfl ?_
  refine lv_lconst (v := 0) hx hb dX3_arePersons_2 (by decide) ?_
  refine lv_iconst (v := 1) hx hb dX3_arePersons_3 (by decide) ?_
  refine lv_aload_n hx hb dX3_arePersons_4 rfl (lv_at hl 0 rfl) ?_
  refine m_geti F hO hS 18 (by decide) rfl q1415 dX3_arePersons_5 ?_
  refine lv_ishl hx hb dX3_arePersons_8 ?_
  refine lv_iconst (v := 1) hx hb dX3_arePersons_9 (by decide) ?_
  refine lv_isub hx hb dX3_arePersons_10 ?_
  refine lv_i2l hx hb dX3_arePersons_11 rfl ?_
  refine gw_callSi (As := [.long a1.toInt64, .long 0, .long ((((1 : Int32) <<< ((σ 18 0) &&& 31)) - 1).toInt64)]) (rest := []) F hS (tM_in l g hO σ a1.toInt64 0 ((((1 : Int32) <<< ((σ 18 0) &&& 31)) - 1).toInt64) _ h) (va_cwS 3 hts (lw_S q1593 q1594 q90 q1595) rfl rfl rfl (by decide +kernel) ⟨Nat.le_of_ble_eq_true rfl, Nat.le_of_ble_eq_true rfl⟩) rfl hl.1 rfl (Nat.le_of_ble_eq_true rfl) dX3_arePersons_12 ⟨Nat.le_refl 0, Nat.le_refl 0⟩ (fun r2 s1 H locs h hS => ?_)
  obtain ⟨zr2, h⟩ := h
  exact gw_zret F hS zr2 h dX3_arePersons_15
set_option maxHeartbeats 4000000 in
set_option maxRecDepth 100000 in
theorem tM_arePersons (l : Launch) (g : MG) (hO : MOK g) (σ : MS) (a1 : Int32) (post : Int32 → MS → Prop) (h : wM_arePersons post σ a1) : Met l yX3_arePersons (ws_ yX3_arePersons cX3_arePersons 2 (some .boolean)) rM_arePersons (va_Pc [.ref (mad g 62), .int a1] (gPre (MWd g) (mD g) (mcl g) (mty g) σ)) (va_Qi (zpost post) (gB (MWd g)) (MA g)) 0 0 (MA g) := by
  refine Met.ofW (cc := cX3_arePersons) (maxL := 2) (ret := (some .boolean)) (by decide) rfl ?_
  intro p e s m args below meth c s₁ B hml hv
  obtain ⟨rfl, hW, hK⟩ := hv
  have hts := atoms_spec (ws := (ws_ yX3_arePersons cX3_arePersons 2 (some .boolean))) B.pre
  have hts : ∀ w ∈ lw_all, w.before _ s = true := fun w h => hts w (List.mem_cons_of_mem _ h)
  have hl := lv_entry ([.ref (mad g 62), .int a1]) (n := 2) (Nat.le_of_ble_eq_true rfl)
  rw [lg_entry_eq]
  generalize (lg_sl ([.ref (mad g 62), .int a1]) ++ List.replicate (2 - (lg_sl ([.ref (mad g 62), .int a1])).length) Slot.unset).toArray = ls at hl ⊢
  exact kM_arePersons ⟨⟨B.exec, B.bytes, hml, findClass_of_methodNamed B.named, hts⟩, hK, B.returns, B.notSynchronized⟩ hO σ a1 s.heap [] ls ⟨hW, va_S.rf⟩ hl h
def wM_warrant (post : Int32 → MS → Prop) (σ : MS) (a1 : Int32) (a2 : Int32) : Prop := wM_isHunter (fun r2 s1 => (r2 = 0 → post (-1) s1) ∧ (¬ (r2 = 0) → wM_arePersons (fun r5 s4 => (¬ (r5 = 0) → (vp_in a1 6 ∧ ∀ x8 : Int32, x8 = s4 29 a1.toNatClampNeg → vp_in a1 6 ∧ ∀ s9 : MS, s9 = up2 s4 29 a1.toNatClampNeg a2 → post x8 s9)) ∧ (r5 = 0 → post (-1) s4)) s1 a2)) σ a1
abbrev rM_warrant : Room := { frames := 2, cells := 0, slots := 0, locals := 46 }
set_option maxHeartbeats 4000000 in
set_option maxRecDepth 100000 in
theorem kM_warrant {p : Program} {l : Launch} {e : Env} {s : State} {m : MethodId} {args : Array Value} {below : List Frame} {meth : Method} {c : Code} {g : MG} {post : Int32 → MS → Prop} (F : gFx p s m c meth args cX3_warrant 4 RX3 (some .int) (mD g) (mcl g) (mty g)) (hO : MOK g) (σ : MS) (a1 : Int32) (a2 : Int32) (H : Heap) (locs : List Loc) (ls : Array Slot) (hS : gSt (MWd g) (MA g) s σ H locs) (hl : lv_has ls 4 [(0, .ref (mad g 62)), (1, .int a1), (2, .int a2)]) (h : wM_warrant post σ a1 a2) : W p l e rM_warrant s m args below meth c H locs 0 0 (MQ below (va_Qi post (gB (MWd g)) (MA g)) args s 0 0 (MA g)) (F0 m 0 ls []) := by
  have hx := F.hx
  have hb := F.hb
  have hts := F.1.2.2.2.2
  have hown := F.1.2.2.2.1
  rw [wM_warrant] at h
  refine lv_aload_n hx hb dX3_warrant_0 rfl (lv_at hl 0 rfl) ?_
  refine lv_iload_n hx hb dX3_warrant_1 rfl (lv_at hl 1 rfl) ?_
  refine gw_callVi (As := [.int a1]) (rest := []) F hS (tM_isHunter l g hO σ a1 _ h) (cwV 1 hts (lw_V q1783 q1785 qs59 q90 q1786) rfl rfl rfl (by decide +kernel) ⟨Nat.le_of_ble_eq_true rfl, Nat.le_of_ble_eq_true rfl⟩) (m_rec F hO hS) rfl hl.1 rfl (Nat.le_of_ble_eq_true rfl) dX3_warrant_2 ⟨Nat.le_refl 0, Nat.le_refl 0⟩ (fun r2 s1 H locs h hS => ?_)
  obtain ⟨zr2, h⟩ := h
  refine lv_if_eq (tgt := 16) hx hb dX3_warrant_5 (by decide) (fun c3 => ?_) (fun c3 => ?_)
  · have h := h.1 c3
    refine lv_iconst (v := (-1)) hx hb dX3_warrant_16 (by decide) ?_
    exact gw_iret F hS h dX3_warrant_17
  · have h := h.2 c3
    refine lv_aload_n hx hb dX3_warrant_8 rfl (lv_at hl 0 rfl) ?_
    refine lv_iload_n hx hb dX3_warrant_9 rfl (lv_at hl 2 rfl) ?_
    refine gw_callVi (As := [.int a2]) (rest := []) F hS (tM_arePersons l g hO s1 a2 _ h) (cwV 1 hts (lw_V q1791 q1793 qs60 q90 q1794) rfl rfl rfl (by decide +kernel) ⟨Nat.le_of_ble_eq_true rfl, Nat.le_of_ble_eq_true rfl⟩) (m_rec F hO hS) rfl hl.1 rfl (Nat.le_of_ble_eq_true rfl) dX3_warrant_10 ⟨Nat.le_refl 0, Nat.le_refl 0⟩ (fun r5 s4 H locs h hS => ?_)
    obtain ⟨zr5, h⟩ := h
    refine lv_if_ne (tgt := 18) hx hb dX3_warrant_13 (by decide) (fun c6 => ?_) (fun c6 => ?_)
    · have h := h.1 c6
      refine lv_aload_n hx hb dX3_warrant_18 rfl (lv_at hl 0 rfl) ?_
      refine m_geta F hO hS 29 (by decide) rfl q1426 dX3_warrant_19 ?_
      refine lv_iload_n hx hb dX3_warrant_22 rfl (lv_at hl 1 rfl) ?_
      obtain ⟨b7, h⟩ := h
      refine m_iald F hS 29 24 rfl rfl b7 dX3_warrant_23 ?_
      refine lv_topi (fun x8 ex8 => ?_)
      have h := h x8 ex8
      refine lv_istore_n (lv' := [(3, .int x8), (0, .ref (mad g 62)), (1, .int a1), (2, .int a2)]) hx hb dX3_warrant_24 rfl hl (by decide) rfl (fun ls hl => ?_)
      refine lv_aload_n hx hb dX3_warrant_25 rfl (lv_at hl 1 rfl) ?_
      refine m_geta F hO hS 29 (by decide) rfl q1426 dX3_warrant_26 ?_
      refine lv_iload_n hx hb dX3_warrant_29 rfl (lv_at hl 2 rfl) ?_
      refine lv_iload_n hx hb dX3_warrant_30 rfl (lv_at hl 3 rfl) ?_
      obtain ⟨b10, h⟩ := h
      refine m_iast F hO hS 29 24 rfl rfl b10 dX3_warrant_31 (fun s9 es9 H locs hS => ?_)
      have h := h s9 es9
      refine lv_iload_n hx hb dX3_warrant_32 rfl (lv_at hl 0 rfl) ?_
      exact gw_iret F hS h dX3_warrant_33
    · have h := h.2 c6
      refine lv_iconst (v := (-1)) hx hb dX3_warrant_16 (by decide) ?_
      exact gw_iret F hS h dX3_warrant_17
set_option maxHeartbeats 4000000 in
set_option maxRecDepth 100000 in
theorem tM_warrant (l : Launch) (g : MG) (hO : MOK g) (σ : MS) (a1 : Int32) (a2 : Int32) (post : Int32 → MS → Prop) (h : wM_warrant post σ a1 a2) : Met l yX3_warrant (ws_ yX3_warrant cX3_warrant 4 (some .int)) rM_warrant (va_Pc [.ref (mad g 62), .int a1, .int a2] (gPre (MWd g) (mD g) (mcl g) (mty g) σ)) (va_Qi post (gB (MWd g)) (MA g)) 0 0 (MA g) := by
  refine Met.ofW (cc := cX3_warrant) (maxL := 4) (ret := (some .int)) (by decide) rfl ?_
  intro p e s m args below meth c s₁ B hml hv
  obtain ⟨rfl, hW, hK⟩ := hv
  have hts := atoms_spec (ws := (ws_ yX3_warrant cX3_warrant 4 (some .int))) B.pre
  have hts : ∀ w ∈ lw_all, w.before _ s = true := fun w h => hts w (List.mem_cons_of_mem _ h)
  have hl := lv_entry ([.ref (mad g 62), .int a1, .int a2]) (n := 4) (Nat.le_of_ble_eq_true rfl)
  rw [lg_entry_eq]
  generalize (lg_sl ([.ref (mad g 62), .int a1, .int a2]) ++ List.replicate (4 - (lg_sl ([.ref (mad g 62), .int a1, .int a2])).length) Slot.unset).toArray = ls at hl ⊢
  exact kM_warrant ⟨⟨B.exec, B.bytes, hml, findClass_of_methodNamed B.named, hts⟩, hK, B.returns, B.notSynchronized⟩ hO σ a1 a2 s.heap [] ls ⟨hW, va_S.rf⟩ hl h
def wM_nameOf (post : Int32 → MS → Prop) (σ : MS) (a1 : Int32) (a2 : Int32) (a3 : Int32) (a4 : Int32) : Prop := (a1 = 98 → (vp_in a3 16 ∧ (¬ ((σ 2 a3.toNatClampNeg) = 0) → (vp_in a3 16 ∧ wM_there (fun r6 s5 => post ((σ 4 a3.toNatClampNeg) - r6) s5) σ a3)) ∧ ((σ 2 a3.toNatClampNeg) = 0 → post 0 σ))) ∧ (a1 = 100 → post a4 σ) ∧ (a1 = 107 → wM_childrenOf (fun r10 s9 => post r10 s9) σ a2) ∧ (a1 = 110 → wM_there (fun r13 s12 => post r13 s12) σ a3) ∧ (a1 = 115 → (vp_in a2 16 ∧ post (σ 19 a2.toNatClampNeg) σ)) ∧ (¬ a1 = 98 → ¬ a1 = 100 → ¬ a1 = 107 → ¬ a1 = 110 → ¬ a1 = 115 → (vp_in a3 16 ∧ (∀ v18 : Int32, v18 = (if (σ 9 a3.toNatClampNeg) = 0 then 0 else 1) → post v18 σ)))
abbrev rM_nameOf : Room := { frames := 1, cells := 0, slots := 0, locals := 23 }
set_option maxHeartbeats 4000000 in
set_option maxRecDepth 100000 in
theorem kM_nameOf {p : Program} {l : Launch} {e : Env} {s : State} {m : MethodId} {args : Array Value} {below : List Frame} {meth : Method} {c : Code} {g : MG} {post : Int32 → MS → Prop} (F : gFx p s m c meth args cX3_nameOf 5 RX3 (some .int) (mD g) (mcl g) (mty g)) (hO : MOK g) (σ : MS) (a1 : Int32) (a2 : Int32) (a3 : Int32) (a4 : Int32) (H : Heap) (locs : List Loc) (ls : Array Slot) (hS : gSt (MWd g) (MA g) s σ H locs) (hl : lv_has ls 5 [(0, .ref (mad g 62)), (1, .int a1), (2, .int a2), (3, .int a3), (4, .int a4)]) (h : wM_nameOf post σ a1 a2 a3 a4) : W p l e rM_nameOf s m args below meth c H locs 0 0 (MQ below (va_Qi post (gB (MWd g)) (MA g)) args s 0 0 (MA g)) (F0 m 0 ls []) := by
  have hx := F.hx
  have hb := F.hb
  have hts := F.1.2.2.2.2
  have hown := F.1.2.2.2.1
  rw [wM_nameOf] at h
  refine lv_iload_n hx hb dX3_nameOf_0 rfl (lv_at hl 1 rfl) ?_
  by_cases c1 : a1 = 98
  · have h := h.1 c1
    refine lv_lookup (off := 73) (tgt := 74) hx hb dX3_nameOf_1 (by decide) (by rw [c1]; decide) (by decide) ?_
    refine lv_aload_n hx hb dX3_nameOf_74 rfl (lv_at hl 0 rfl) ?_
    refine m_geta F hO hS 2 (by decide) rfl q1399 dX3_nameOf_75 ?_
    refine lv_iload_n hx hb dX3_nameOf_78 rfl (lv_at hl 3 rfl) ?_
    obtain ⟨b2, h⟩ := h
    refine m_iald F hS 2 0 rfl rfl b2 dX3_nameOf_79 ?_
    refine lv_if_ne (tgt := 87) hx hb dX3_nameOf_80 (by decide) (fun c3 => ?_) (fun c3 => ?_)
    · have h := h.1 c3
      refine lv_aload_n hx hb dX3_nameOf_87 rfl (lv_at hl 0 rfl) ?_
      refine m_geta F hO hS 4 (by decide) rfl q1401 dX3_nameOf_88 ?_
      refine lv_iload_n hx hb dX3_nameOf_91 rfl (lv_at hl 3 rfl) ?_
      obtain ⟨b4, h⟩ := h
      refine m_iald F hS 4 2 rfl rfl b4 dX3_nameOf_92 ?_
      refine lv_aload_n hx hb dX3_nameOf_93 rfl (lv_at hl 0 rfl) ?_
      refine lv_iload_n hx hb dX3_nameOf_94 rfl (lv_at hl 3 rfl) ?_
      refine gw_callVi (As := [.int a3]) (rest := [.int (σ 4 a3.toNatClampNeg)]) F hS (tM_there l g hO σ a3 _ h) (cwV 1 hts (lw_V q1681 q1683 qs46 q90 q1684) rfl rfl rfl (by decide +kernel) ⟨Nat.le_of_ble_eq_true rfl, Nat.le_of_ble_eq_true rfl⟩) (m_rec F hO hS) rfl hl.1 rfl (Nat.le_of_ble_eq_true rfl) dX3_nameOf_95 ⟨Nat.le_refl 0, Nat.le_refl 0⟩ (fun r6 s5 H locs h hS => ?_)
      refine lv_isub hx hb dX3_nameOf_98 ?_
      exact gw_iret F hS h dX3_nameOf_99
    · have h := h.2 c3
      refine lv_iconst (v := 0) hx hb dX3_nameOf_83 (by decide) ?_
      refine lv_goto (tgt := 99) hx hb dX3_nameOf_84 (by decide) ?_
      exact gw_iret F hS h dX3_nameOf_99
  have h := h.2
  by_cases c7 : a1 = 100
  · have h := h.1 c7
    refine lv_lookup (off := 64) (tgt := 65) hx hb dX3_nameOf_1 (by decide) (by rw [c7]; decide) (by decide) ?_
    refine lv_iload hx hb dX3_nameOf_65 (lv_at hl 4 rfl) ?_
    exact gw_iret F hS h dX3_nameOf_67
  have h := h.2
  by_cases c8 : a1 = 107
  · have h := h.1 c8
    refine lv_lookup (off := 58) (tgt := 59) hx hb dX3_nameOf_1 (by decide) (by rw [c8]; decide) (by decide) ?_
    refine lv_aload_n hx hb dX3_nameOf_59 rfl (lv_at hl 0 rfl) ?_
    refine lv_iload_n hx hb dX3_nameOf_60 rfl (lv_at hl 2 rfl) ?_
    refine gw_callVi (As := [.int a2]) (rest := []) F hS (tM_childrenOf l g hO σ a2 _ h) (cwV 1 hts (lw_V q1729 q1731 qs54 q90 q1732) rfl rfl rfl (by decide +kernel) ⟨Nat.le_of_ble_eq_true rfl, Nat.le_of_ble_eq_true rfl⟩) (m_rec F hO hS) rfl hl.1 rfl (Nat.le_of_ble_eq_true rfl) dX3_nameOf_61 ⟨Nat.le_refl 0, Nat.le_refl 0⟩ (fun r10 s9 H locs h hS => ?_)
    exact gw_iret F hS h dX3_nameOf_64
  have h := h.2
  by_cases c11 : a1 = 110
  · have h := h.1 c11
    refine lv_lookup (off := 67) (tgt := 68) hx hb dX3_nameOf_1 (by decide) (by rw [c11]; decide) (by decide) ?_
    refine lv_aload_n hx hb dX3_nameOf_68 rfl (lv_at hl 0 rfl) ?_
    refine lv_iload_n hx hb dX3_nameOf_69 rfl (lv_at hl 3 rfl) ?_
    refine gw_callVi (As := [.int a3]) (rest := []) F hS (tM_there l g hO σ a3 _ h) (cwV 1 hts (lw_V q1681 q1683 qs46 q90 q1684) rfl rfl rfl (by decide +kernel) ⟨Nat.le_of_ble_eq_true rfl, Nat.le_of_ble_eq_true rfl⟩) (m_rec F hO hS) rfl hl.1 rfl (Nat.le_of_ble_eq_true rfl) dX3_nameOf_70 ⟨Nat.le_refl 0, Nat.le_refl 0⟩ (fun r13 s12 H locs h hS => ?_)
    exact gw_iret F hS h dX3_nameOf_73
  have h := h.2
  by_cases c14 : a1 = 115
  · have h := h.1 c14
    refine lv_lookup (off := 51) (tgt := 52) hx hb dX3_nameOf_1 (by decide) (by rw [c14]; decide) (by decide) ?_
    refine lv_aload_n hx hb dX3_nameOf_52 rfl (lv_at hl 0 rfl) ?_
    refine m_geta F hO hS 19 (by decide) rfl q1416 dX3_nameOf_53 ?_
    refine lv_iload_n hx hb dX3_nameOf_56 rfl (lv_at hl 2 rfl) ?_
    obtain ⟨b15, h⟩ := h
    refine m_iald F hS 19 15 rfl rfl b15 dX3_nameOf_57 ?_
    exact gw_iret F hS h dX3_nameOf_58
  have h := h.2
  have h := h c1 c7 c8 c11 c14
  refine lv_lookup (off := 99) (tgt := 100) hx hb dX3_nameOf_1 (by decide) (by rw [lv_osw c1 (by decide)]; rw [lv_osw c7 (by decide)]; rw [lv_osw c8 (by decide)]; rw [lv_osw c11 (by decide)]; rw [lv_osw c14 (by decide)]; rfl) (by decide) ?_
  refine lv_aload_n hx hb dX3_nameOf_100 rfl (lv_at hl 0 rfl) ?_
  refine m_geta F hO hS 9 (by decide) rfl q1406 dX3_nameOf_101 ?_
  refine lv_iload_n hx hb dX3_nameOf_104 rfl (lv_at hl 3 rfl) ?_
  obtain ⟨b16, h⟩ := h
  refine m_zald F hS 9 7 rfl rfl b16 dX3_nameOf_105 ?_
  refine gcut (P := ∀ (v18 : Int32) (H : Heap) (locs : List Loc) (ls : Array Slot), v18 = (if (σ 9 a3.toNatClampNeg) = 0 then 0 else 1) → gSt (MWd g) (MA g) s σ H locs → lv_has ls 5 [] → W p l e rM_nameOf s m args below meth c H locs 0 0 (MQ below (va_Qi post (gB (MWd g)) (MA g)) args s 0 0 (MA g)) (F0 m 114 ls [.int v18])) (fun v18 H locs ls ev18 hS hl => ?_) (fun J19 => ?_)
  · have h := h v18 ev18
    exact gw_iret F hS h dX3_nameOf_114
  · refine lv_if_eq (tgt := 113) hx hb dX3_nameOf_106 (by decide) (fun c17 => ?_) (fun c17 => ?_)
    · refine lv_iconst (v := 0) hx hb dX3_nameOf_113 (by decide) ?_
      exact J19 _ H locs ls (by first | with_reducible rfl | ((try rw [if_pos c17]); done)) hS (lv_sub hl [] rfl)
    · refine lv_iconst (v := 1) hx hb dX3_nameOf_109 (by decide) ?_
      refine lv_goto (tgt := 114) hx hb dX3_nameOf_110 (by decide) ?_
      exact J19 _ H locs ls (by first | with_reducible rfl | ((try rw [if_neg c17]); done)) hS (lv_sub hl [] rfl)
set_option maxHeartbeats 4000000 in
set_option maxRecDepth 100000 in
theorem tM_nameOf (l : Launch) (g : MG) (hO : MOK g) (σ : MS) (a1 : Int32) (a2 : Int32) (a3 : Int32) (a4 : Int32) (post : Int32 → MS → Prop) (h : wM_nameOf post σ a1 a2 a3 a4) : Met l yX3_nameOf (ws_ yX3_nameOf cX3_nameOf 5 (some .int)) rM_nameOf (va_Pc [.ref (mad g 62), .int a1, .int a2, .int a3, .int a4] (gPre (MWd g) (mD g) (mcl g) (mty g) σ)) (va_Qi post (gB (MWd g)) (MA g)) 0 0 (MA g) := by
  refine Met.ofW (cc := cX3_nameOf) (maxL := 5) (ret := (some .int)) (by decide) rfl ?_
  intro p e s m args below meth c s₁ B hml hv
  obtain ⟨rfl, hW, hK⟩ := hv
  have hts := atoms_spec (ws := (ws_ yX3_nameOf cX3_nameOf 5 (some .int))) B.pre
  have hts : ∀ w ∈ lw_all, w.before _ s = true := fun w h => hts w (List.mem_cons_of_mem _ h)
  have hl := lv_entry ([.ref (mad g 62), .int a1, .int a2, .int a3, .int a4]) (n := 5) (Nat.le_of_ble_eq_true rfl)
  rw [lg_entry_eq]
  generalize (lg_sl ([.ref (mad g 62), .int a1, .int a2, .int a3, .int a4]) ++ List.replicate (5 - (lg_sl ([.ref (mad g 62), .int a1, .int a2, .int a3, .int a4])).length) Slot.unset).toArray = ls at hl ⊢
  exact kM_nameOf ⟨⟨B.exec, B.bytes, hml, findClass_of_methodNamed B.named, hts⟩, hK, B.returns, B.notSynchronized⟩ hO σ a1 a2 a3 a4 s.heap [] ls ⟨hW, va_S.rf⟩ hl h
def wM_done (post : Int32 → MS → Prop) (σ : MS) (a0 : Int32) (a1 : Int32) (a2 : Int32) : Prop := (a0 = 2 → (∀ v3 : Int32, v3 = (if a2 ≤ a1 then 0 else 1) → post v3 σ)) ∧ (a0 = 3 → (∀ v7 : Int32, v7 = (if a1 ≤ a2 then 0 else 1) → post v7 σ)) ∧ (a0 = 4 → (∀ v11 : Int32, v11 = (if a1 = a2 then 1 else 0) → post v11 σ)) ∧ (a0 = 5 → post (a1 ||| a2) σ) ∧ (a0 = 6 → post (a1 &&& a2) σ) ∧ (¬ a0 = 2 → ¬ a0 = 3 → ¬ a0 = 4 → ¬ a0 = 5 → ¬ a0 = 6 → post (a1 ||| a2) σ)
abbrev rM_done : Room := { frames := 0, cells := 0, slots := 0, locals := 0 }
set_option maxHeartbeats 4000000 in
set_option maxRecDepth 100000 in
theorem kM_done {p : Program} {l : Launch} {e : Env} {s : State} {m : MethodId} {args : Array Value} {below : List Frame} {meth : Method} {c : Code} {g : MG} {post : Int32 → MS → Prop} (F : gFx p s m c meth args cX3_done 3 RX3 (some .int) (mD g) (mcl g) (mty g)) (hO : MOK g) (σ : MS) (a0 : Int32) (a1 : Int32) (a2 : Int32) (H : Heap) (locs : List Loc) (ls : Array Slot) (hS : gSt (MWd g) (MA g) s σ H locs) (hl : lv_has ls 3 [(0, .int a0), (1, .int a1), (2, .int a2)]) (h : wM_done post σ a0 a1 a2) : W p l e rM_done s m args below meth c H locs 0 0 (MQ below (va_Qi post (gB (MWd g)) (MA g)) args s 0 0 (MA g)) (F0 m 0 ls []) := by
  have hx := F.hx
  have hb := F.hb
  have hts := F.1.2.2.2.2
  have hown := F.1.2.2.2.1
  rw [wM_done] at h
  refine lv_iload_n hx hb dX3_done_0 rfl (lv_at hl 0 rfl) ?_
  by_cases c1 : a0 = 2
  · have h := h.1 c1
    refine lv_tableIn (off := 35) (tgt := 36) hx hb dX3_done_1 (by rw [c1]; decide) (by rw [c1]; decide) (by rw [c1]; rfl) (by decide) ?_
    refine lv_iload_n hx hb dX3_done_36 rfl (lv_at hl 1 rfl) ?_
    refine lv_iload_n hx hb dX3_done_37 rfl (lv_at hl 2 rfl) ?_
    refine gcut (P := ∀ (v3 : Int32) (H : Heap) (locs : List Loc) (ls : Array Slot), v3 = (if a2 ≤ a1 then 0 else 1) → gSt (MWd g) (MA g) s σ H locs → lv_has ls 3 [] → W p l e rM_done s m args below meth c H locs 0 0 (MQ below (va_Qi post (gB (MWd g)) (MA g)) args s 0 0 (MA g)) (F0 m 46 ls [.int v3])) (fun v3 H locs ls ev3 hS hl => ?_) (fun J4 => ?_)
    · have h := h v3 ev3
      exact gw_iret F hS h dX3_done_46
    · refine lv_icmp_ge (tgt := 45) hx hb dX3_done_38 (by decide) (fun c2 => ?_) (fun c2 => ?_)
      · refine lv_iconst (v := 0) hx hb dX3_done_45 (by decide) ?_
        exact J4 _ H locs ls (by first | with_reducible rfl | ((try rw [if_pos c2]); done)) hS (lv_sub hl [] rfl)
      · refine lv_iconst (v := 1) hx hb dX3_done_41 (by decide) ?_
        refine lv_goto (tgt := 46) hx hb dX3_done_42 (by decide) ?_
        exact J4 _ H locs ls (by first | with_reducible rfl | ((try rw [if_neg c2]); done)) hS (lv_sub hl [] rfl)
  have h := h.2
  by_cases c5 : a0 = 3
  · have h := h.1 c5
    refine lv_tableIn (off := 46) (tgt := 47) hx hb dX3_done_1 (by rw [c5]; decide) (by rw [c5]; decide) (by rw [c5]; rfl) (by decide) ?_
    refine lv_iload_n hx hb dX3_done_47 rfl (lv_at hl 1 rfl) ?_
    refine lv_iload_n hx hb dX3_done_48 rfl (lv_at hl 2 rfl) ?_
    refine gcut (P := ∀ (v7 : Int32) (H : Heap) (locs : List Loc) (ls : Array Slot), v7 = (if a1 ≤ a2 then 0 else 1) → gSt (MWd g) (MA g) s σ H locs → lv_has ls 3 [] → W p l e rM_done s m args below meth c H locs 0 0 (MQ below (va_Qi post (gB (MWd g)) (MA g)) args s 0 0 (MA g)) (F0 m 57 ls [.int v7])) (fun v7 H locs ls ev7 hS hl => ?_) (fun J8 => ?_)
    · have h := h v7 ev7
      exact gw_iret F hS h dX3_done_57
    · refine lv_icmp_le (tgt := 56) hx hb dX3_done_49 (by decide) (fun c6 => ?_) (fun c6 => ?_)
      · refine lv_iconst (v := 0) hx hb dX3_done_56 (by decide) ?_
        exact J8 _ H locs ls (by first | with_reducible rfl | ((try rw [if_pos c6]); done)) hS (lv_sub hl [] rfl)
      · refine lv_iconst (v := 1) hx hb dX3_done_52 (by decide) ?_
        refine lv_goto (tgt := 57) hx hb dX3_done_53 (by decide) ?_
        exact J8 _ H locs ls (by first | with_reducible rfl | ((try rw [if_neg c6]); done)) hS (lv_sub hl [] rfl)
  have h := h.2
  by_cases c9 : a0 = 4
  · have h := h.1 c9
    refine lv_tableIn (off := 57) (tgt := 58) hx hb dX3_done_1 (by rw [c9]; decide) (by rw [c9]; decide) (by rw [c9]; rfl) (by decide) ?_
    refine lv_iload_n hx hb dX3_done_58 rfl (lv_at hl 1 rfl) ?_
    refine lv_iload_n hx hb dX3_done_59 rfl (lv_at hl 2 rfl) ?_
    refine gcut (P := ∀ (v11 : Int32) (H : Heap) (locs : List Loc) (ls : Array Slot), v11 = (if a1 = a2 then 1 else 0) → gSt (MWd g) (MA g) s σ H locs → lv_has ls 3 [] → W p l e rM_done s m args below meth c H locs 0 0 (MQ below (va_Qi post (gB (MWd g)) (MA g)) args s 0 0 (MA g)) (F0 m 68 ls [.int v11])) (fun v11 H locs ls ev11 hS hl => ?_) (fun J12 => ?_)
    · have h := h v11 ev11
      exact gw_iret F hS h dX3_done_68
    · refine lv_icmp_ne (tgt := 67) hx hb dX3_done_60 (by decide) (fun c10 => ?_) (fun c10 => ?_)
      · refine lv_iconst (v := 0) hx hb dX3_done_67 (by decide) ?_
        exact J12 _ H locs ls (by first | with_reducible rfl | ((try rw [if_neg c10]); done)) hS (lv_sub hl [] rfl)
      · refine lv_iconst (v := 1) hx hb dX3_done_63 (by decide) ?_
        refine lv_goto (tgt := 68) hx hb dX3_done_64 (by decide) ?_
        exact J12 _ H locs ls (by first | with_reducible rfl | ((try rw [if_pos c10]); done)) hS (lv_sub hl [] rfl)
  have h := h.2
  by_cases c13 : a0 = 5
  · have h := h.1 c13
    refine lv_tableIn (off := 72) (tgt := 73) hx hb dX3_done_1 (by rw [c13]; decide) (by rw [c13]; decide) (by rw [c13]; rfl) (by decide) ?_
    refine lv_iload_n hx hb dX3_done_73 rfl (lv_at hl 1 rfl) ?_
    refine lv_iload_n hx hb dX3_done_74 rfl (lv_at hl 2 rfl) ?_
    refine lv_ior hx hb dX3_done_75 ?_
    exact gw_iret F hS h dX3_done_76
  have h := h.2
  by_cases c14 : a0 = 6
  · have h := h.1 c14
    refine lv_tableIn (off := 68) (tgt := 69) hx hb dX3_done_1 (by rw [c14]; decide) (by rw [c14]; decide) (by rw [c14]; rfl) (by decide) ?_
    refine lv_iload_n hx hb dX3_done_69 rfl (lv_at hl 1 rfl) ?_
    refine lv_iload_n hx hb dX3_done_70 rfl (lv_at hl 2 rfl) ?_
    refine lv_iand hx hb dX3_done_71 ?_
    exact gw_iret F hS h dX3_done_72
  have h := h.2
  have h := h c1 c5 c9 c13 c14
  have c1 := lv_neT (a := 2) c1 (by decide)
  have c5 := lv_neT (a := 3) c5 (by decide)
  have c9 := lv_neT (a := 4) c9 (by decide)
  have c13 := lv_neT (a := 5) c13 (by decide)
  have c14 := lv_neT (a := 6) c14 (by decide)
  refine lv_tableOut (tgt := 73) hx hb dX3_done_1 (by omega) (by decide) ?_
  refine lv_iload_n hx hb dX3_done_73 rfl (lv_at hl 1 rfl) ?_
  refine lv_iload_n hx hb dX3_done_74 rfl (lv_at hl 2 rfl) ?_
  refine lv_ior hx hb dX3_done_75 ?_
  exact gw_iret F hS h dX3_done_76
set_option maxHeartbeats 4000000 in
set_option maxRecDepth 100000 in
theorem tM_done (l : Launch) (g : MG) (hO : MOK g) (σ : MS) (a0 : Int32) (a1 : Int32) (a2 : Int32) (post : Int32 → MS → Prop) (h : wM_done post σ a0 a1 a2) : Met l yX3_done (ws_ yX3_done cX3_done 3 (some .int)) rM_done (va_Pc [.int a0, .int a1, .int a2] (gPre (MWd g) (mD g) (mcl g) (mty g) σ)) (va_Qi post (gB (MWd g)) (MA g)) 0 0 (MA g) := by
  refine Met.ofW (cc := cX3_done) (maxL := 3) (ret := (some .int)) (by decide) rfl ?_
  intro p e s m args below meth c s₁ B hml hv
  obtain ⟨rfl, hW, hK⟩ := hv
  have hts := atoms_spec (ws := (ws_ yX3_done cX3_done 3 (some .int))) B.pre
  have hts : ∀ w ∈ lw_all, w.before _ s = true := fun w h => hts w (List.mem_cons_of_mem _ h)
  have hl := lv_entry ([.int a0, .int a1, .int a2]) (n := 3) (Nat.le_of_ble_eq_true rfl)
  rw [lg_entry_eq]
  generalize (lg_sl ([.int a0, .int a1, .int a2]) ++ List.replicate (3 - (lg_sl ([.int a0, .int a1, .int a2])).length) Slot.unset).toArray = ls at hl ⊢
  exact kM_done ⟨⟨B.exec, B.bytes, hml, findClass_of_methodNamed B.named, hts⟩, hK, B.returns, B.notSynchronized⟩ hO σ a0 a1 a2 s.heap [] ls ⟨hW, va_S.rf⟩ hl h
def wM_holds_J56 (post : Int32 → MS → Prop) (K6 : MS → Int32 → Int32 → Int32 → Int32 → Int32 → Int32 → Prop) (σ : MS) (x18 : Int32) (x19 : Int32) (x20 : Int32) (x21 : Int32) (x22 : Int32) (x23 : Int32) (x24 : Int32) (x25 : Int32) : Prop := (¬ (x24 = 0) → wM_nameOf (fun r28 s27 => (vp_in x22 80 ∧ ∀ s29 : MS, s29 = up2 s27 50 x22.toNatClampNeg r28 → ∀ x31 : Int32, x31 = x22 + 1 → ∀ x32 : Int32, x32 = x23 + 1 → K6 s29 x18 x19 x20 x21 x31 x32)) σ x25 x19 x20 x21) ∧ (x24 = 0 → (vp_in x22 80 ∧ ∀ s33 : MS, s33 = up2 σ 50 x22.toNatClampNeg x25 → ∀ x35 : Int32, x35 = x22 + 1 → ∀ x36 : Int32, x36 = x23 + 1 → K6 s33 x18 x19 x20 x21 x35 x36))
def wM_holds_L6 (post : Int32 → MS → Prop) : Nat → MS → Int32 → Int32 → Int32 → Int32 → Int32 → Int32 → Prop
  | 0, _, _, _, _, _, _, _ => False
  | n + 1, σ, x1, x2, x3, x4, x5, x6 => (vp_in x1 16 ∧ ((σ 36 x1.toNatClampNeg) ≤ x6 → (vp_in 0 80 ∧ (∀ v11 : Int32, v11 = (if (σ 50 (0 : Int32).toNatClampNeg) = 1 then 1 else 0) → post v11 σ))) ∧ (¬ ((σ 36 x1.toNatClampNeg) ≤ x6) → (vp_in (((80 : Int32) * x1) + x6) 1360 ∧ ∀ x14 : Int32, x14 = σ 40 (((80 : Int32) * x1) + x6).toNatClampNeg → vp_in (((80 : Int32) * x1) + x6) 1360 ∧ ∀ x16 : Int32, x16 = σ 41 (((80 : Int32) * x1) + x6).toNatClampNeg → (x14 = 0 → wM_holds_J56 post (wM_holds_L6 post n) σ x1 x2 x3 x4 x5 x6 x14 x16) ∧ (¬ (x14 = 0) → (¬ (x14 = 1) → (¬ (x14 = 5) → (∀ x39 : Int32, x39 = x5 + (-1) → vp_in (x39 - 1) 80 ∧ vp_in x39 80 ∧ wM_done (fun r43 s42 => (vp_in (x39 - 1) 80 ∧ ∀ s44 : MS, s44 = up2 s42 50 (x39 - 1).toNatClampNeg r43 → ∀ x46 : Int32, x46 = x6 + 1 → wM_holds_L6 post n s44 x1 x2 x3 x4 x39 x46)) σ x14 (σ 50 (x39 - 1).toNatClampNeg) (σ 50 x39.toNatClampNeg))) ∧ (x14 = 5 → (vp_in (x5 - 1) 80 ∧ vp_in (x5 - 1) 80 ∧ ∀ s48 : MS, s48 = up2 σ 50 (x5 - 1).toNatClampNeg ((1 : Int32) - (σ 50 (x5 - 1).toNatClampNeg)) → ∀ x50 : Int32, x50 = x6 + 1 → wM_holds_L6 post n s48 x1 x2 x3 x4 x5 x50))) ∧ (x14 = 1 → wM_holds_J56 post (wM_holds_L6 post n) σ x1 x2 x3 x4 x5 x6 x14 x16)))))
def wM_holds (post : Int32 → MS → Prop) (σ : MS) (a1 : Int32) (a2 : Int32) (a3 : Int32) (a4 : Int32) : Prop := ∃ n51, wM_holds_L6 post n51 σ a1 a2 a3 a4 0 0
abbrev rM_holds : Room := { frames := 2, cells := 0, slots := 0, locals := 47 }
set_option maxHeartbeats 4000000 in
set_option maxRecDepth 100000 in
theorem kM_holds_J56 {p : Program} {l : Launch} {e : Env} {s : State} {m : MethodId} {args : Array Value} {below : List Frame} {meth : Method} {c : Code} {g : MG} {post : Int32 → MS → Prop} {K6 : MS → Int32 → Int32 → Int32 → Int32 → Int32 → Int32 → Prop} (F : gFx p s m c meth args cX3_holds 9 RX3 (some .boolean) (mD g) (mcl g) (mty g)) (hO : MOK g) (hK6 : ∀ (σ : MS) (z0 : Int32) (z1 : Int32) (z2 : Int32) (z3 : Int32) (z4 : Int32) (z5 : Int32) (H : Heap) (locs : List Loc) (ls : Array Slot), gSt (MWd g) (MA g) s σ H locs → lv_has ls 9 [(0, .ref (mad g 62)), (1, .int z0), (2, .int z1), (3, .int z2), (4, .int z3), (5, .int z4), (6, .int z5)] → K6 σ z0 z1 z2 z3 z4 z5 → W p l e rM_holds s m args below meth c H locs 0 0 (MQ below (va_Qi (zpost post) (gB (MWd g)) (MA g)) args s 0 0 (MA g)) (F0 m 6 ls [])) : ∀ (σ : MS) (x18 : Int32) (x19 : Int32) (x20 : Int32) (x21 : Int32) (x22 : Int32) (x23 : Int32) (x24 : Int32) (x25 : Int32) (H : Heap) (locs : List Loc) (ls : Array Slot), gSt (MWd g) (MA g) s σ H locs → lv_has ls 9 [(0, .ref (mad g 62)), (1, .int x18), (2, .int x19), (3, .int x20), (4, .int x21), (5, .int x22), (6, .int x23), (7, .int x24), (8, .int x25)] → wM_holds_J56 post K6 σ x18 x19 x20 x21 x22 x23 x24 x25 → W p l e rM_holds s m args below meth c H locs 0 0 (MQ below (va_Qi (zpost post) (gB (MWd g)) (MA g)) args s 0 0 (MA g)) (F0 m 56 ls []) := by
  have hx := F.hx
  have hb := F.hb
  have hts := F.1.2.2.2.2
  have hown := F.1.2.2.2.1
  intro σ x18 x19 x20 x21 x22 x23 x24 x25 H locs ls hS hl h
  rw [wM_holds_J56] at h
  refine lv_aload_n hx hb dX3_holds_56 rfl (lv_at hl 0 rfl) ?_
  refine m_geta F hO hS 50 (by decide) rfl q1447 dX3_holds_57 ?_
  refine lv_iload hx hb dX3_holds_60 (lv_at hl 5 rfl) ?_
  refine lv_iload hx hb dX3_holds_62 (lv_at hl 7 rfl) ?_
  refine lv_if_ne (tgt := 72) hx hb dX3_holds_64 (by decide) (fun c26 => ?_) (fun c26 => ?_)
  · have h := h.1 c26
    refine lv_aload_n hx hb dX3_holds_72 rfl (lv_at hl 0 rfl) ?_
    refine lv_iload hx hb dX3_holds_73 (lv_at hl 8 rfl) ?_
    refine lv_iload_n hx hb dX3_holds_75 rfl (lv_at hl 2 rfl) ?_
    refine lv_iload_n hx hb dX3_holds_76 rfl (lv_at hl 3 rfl) ?_
    refine lv_iload hx hb dX3_holds_77 (lv_at hl 4 rfl) ?_
    refine gw_callVi (As := [.int x25, .int x19, .int x20, .int x21]) (rest := [.int x22, .ref (mad g 50)]) F hS (tM_nameOf l g hO σ x25 x19 x20 x21 _ h) (cwV 4 hts (lw_V q1807 q1809 qs63 q90 q1810) rfl rfl rfl (by decide +kernel) ⟨Nat.le_of_ble_eq_true rfl, Nat.le_of_ble_eq_true rfl⟩) (m_rec F hO hS) rfl hl.1 rfl (Nat.le_of_ble_eq_true rfl) dX3_holds_79 ⟨Nat.le_refl 0, Nat.le_refl 0⟩ (fun r28 s27 H locs h hS => ?_)
    obtain ⟨b30, h⟩ := h
    refine m_iast F hO hS 50 39 rfl rfl b30 dX3_holds_82 (fun s29 es29 H locs hS => ?_)
    have h := h s29 es29
    obtain ⟨x31, ex31⟩ : ∃ y : Int32, y = x22 + 1 := ⟨_, rfl⟩
    have h := h x31 ex31
    refine lv_iinc (v := x31) (lv' := [(5, .int x31), (0, .ref (mad g 62)), (1, .int x18), (2, .int x19), (3, .int x20), (4, .int x21), (6, .int x23), (7, .int x24), (8, .int x25)]) hx hb dX3_holds_83 hl (k := 5) rfl (by rw [ex31]; rfl) (by decide) rfl (fun ls hl => ?_)
    refine lv_goto (tgt := 151) hx hb dX3_holds_86 (by decide) ?_
    obtain ⟨x32, ex32⟩ : ∃ y : Int32, y = x23 + 1 := ⟨_, rfl⟩
    have h := h x32 ex32
    refine lv_iinc (v := x32) (lv' := [(6, .int x32), (5, .int x31), (0, .ref (mad g 62)), (1, .int x18), (2, .int x19), (3, .int x20), (4, .int x21), (7, .int x24), (8, .int x25)]) hx hb dX3_holds_151 hl (k := 6) rfl (by rw [ex32]; rfl) (by decide) rfl (fun ls hl => ?_)
    refine lv_goto (tgt := 6) hx hb dX3_holds_154 (by decide) ?_
    exact hK6 s29 x18 x19 x20 x21 x31 x32 H locs ls hS (lv_sub hl [2, 3, 4, 5, 6, 1, 0] rfl) h
  · have h := h.2 c26
    refine lv_iload hx hb dX3_holds_67 (lv_at hl 8 rfl) ?_
    refine lv_goto (tgt := 82) hx hb dX3_holds_69 (by decide) ?_
    obtain ⟨b34, h⟩ := h
    refine m_iast F hO hS 50 39 rfl rfl b34 dX3_holds_82 (fun s33 es33 H locs hS => ?_)
    have h := h s33 es33
    obtain ⟨x35, ex35⟩ : ∃ y : Int32, y = x22 + 1 := ⟨_, rfl⟩
    have h := h x35 ex35
    refine lv_iinc (v := x35) (lv' := [(5, .int x35), (0, .ref (mad g 62)), (1, .int x18), (2, .int x19), (3, .int x20), (4, .int x21), (6, .int x23), (7, .int x24), (8, .int x25)]) hx hb dX3_holds_83 hl (k := 5) rfl (by rw [ex35]; rfl) (by decide) rfl (fun ls hl => ?_)
    refine lv_goto (tgt := 151) hx hb dX3_holds_86 (by decide) ?_
    obtain ⟨x36, ex36⟩ : ∃ y : Int32, y = x23 + 1 := ⟨_, rfl⟩
    have h := h x36 ex36
    refine lv_iinc (v := x36) (lv' := [(6, .int x36), (5, .int x35), (0, .ref (mad g 62)), (1, .int x18), (2, .int x19), (3, .int x20), (4, .int x21), (7, .int x24), (8, .int x25)]) hx hb dX3_holds_151 hl (k := 6) rfl (by rw [ex36]; rfl) (by decide) rfl (fun ls hl => ?_)
    refine lv_goto (tgt := 6) hx hb dX3_holds_154 (by decide) ?_
    exact hK6 s33 x18 x19 x20 x21 x35 x36 H locs ls hS (lv_sub hl [2, 3, 4, 5, 6, 1, 0] rfl) h
set_option maxHeartbeats 4000000 in
set_option maxRecDepth 100000 in
theorem kM_holds_L6 {p : Program} {l : Launch} {e : Env} {s : State} {m : MethodId} {args : Array Value} {below : List Frame} {meth : Method} {c : Code} {g : MG} {post : Int32 → MS → Prop} (F : gFx p s m c meth args cX3_holds 9 RX3 (some .boolean) (mD g) (mcl g) (mty g)) (hO : MOK g) : ∀ (n : Nat) (σ : MS) (x1 : Int32) (x2 : Int32) (x3 : Int32) (x4 : Int32) (x5 : Int32) (x6 : Int32) (H : Heap) (locs : List Loc) (ls : Array Slot), gSt (MWd g) (MA g) s σ H locs → lv_has ls 9 [(0, .ref (mad g 62)), (1, .int x1), (2, .int x2), (3, .int x3), (4, .int x4), (5, .int x5), (6, .int x6)] → wM_holds_L6 post n σ x1 x2 x3 x4 x5 x6 → W p l e rM_holds s m args below meth c H locs 0 0 (MQ below (va_Qi (zpost post) (gB (MWd g)) (MA g)) args s 0 0 (MA g)) (F0 m 6 ls []) := by
  have hx := F.hx
  have hb := F.hb
  have hts := F.1.2.2.2.2
  have hown := F.1.2.2.2.1
  intro n
  induction n with
  | zero =>
    intro σ x1 x2 x3 x4 x5 x6 H locs ls hS hl h
    exact False.elim h
  | succ n ih =>
    intro σ x1 x2 x3 x4 x5 x6 H locs ls hS hl h
    rw [wM_holds_L6] at h
    refine lv_iload hx hb dX3_holds_6 (lv_at hl 6 rfl) ?_
    refine lv_aload_n hx hb dX3_holds_8 rfl (lv_at hl 0 rfl) ?_
    refine m_geta F hO hS 36 (by decide) rfl q1433 dX3_holds_9 ?_
    refine lv_iload_n hx hb dX3_holds_12 rfl (lv_at hl 1 rfl) ?_
    obtain ⟨b7, h⟩ := h
    refine m_iald F hS 36 29 rfl rfl b7 dX3_holds_13 ?_
    refine lv_icmp_ge (tgt := 157) hx hb dX3_holds_14 (by decide) (fun c8 => ?_) (fun c8 => ?_)
    · have h := h.1 c8
      refine lv_aload_n hx hb dX3_holds_157 rfl (lv_at hl 0 rfl) ?_
      refine m_geta F hO hS 50 (by decide) rfl q1447 dX3_holds_158 ?_
      refine lv_iconst (v := 0) hx hb dX3_holds_161 (by decide) ?_
      obtain ⟨b9, h⟩ := h
      refine m_iald F hS 50 39 rfl rfl b9 dX3_holds_162 ?_
      refine lv_iconst (v := 1) hx hb dX3_holds_163 (by decide) ?_
      refine gcut (P := ∀ (v11 : Int32) (H : Heap) (locs : List Loc) (ls : Array Slot), v11 = (if (σ 50 (0 : Int32).toNatClampNeg) = 1 then 1 else 0) → gSt (MWd g) (MA g) s σ H locs → lv_has ls 9 [] → W p l e rM_holds s m args below meth c H locs 0 0 (MQ below (va_Qi (zpost post) (gB (MWd g)) (MA g)) args s 0 0 (MA g)) (F0 m 172 ls [.int v11])) (fun v11 H locs ls ev11 hS hl => ?_) (fun J12 => ?_)
      · have h := h v11 ev11
        exact gw_zret F hS (by rw [ev11]; exact (bz_ite bz1 bz0)) h dX3_holds_172
      · refine lv_icmp_ne (tgt := 171) hx hb dX3_holds_164 (by decide) (fun c10 => ?_) (fun c10 => ?_)
        · refine lv_iconst (v := 0) hx hb dX3_holds_171 (by decide) ?_
          exact J12 _ H locs ls (by first | with_reducible rfl | ((try rw [if_neg c10]); done)) hS (lv_sub hl [] rfl)
        · refine lv_iconst (v := 1) hx hb dX3_holds_167 (by decide) ?_
          refine lv_goto (tgt := 172) hx hb dX3_holds_168 (by decide) ?_
          exact J12 _ H locs ls (by first | with_reducible rfl | ((try rw [if_pos c10]); done)) hS (lv_sub hl [] rfl)
    · have h := h.2 c8
      refine lv_aload_n hx hb dX3_holds_17 rfl (lv_at hl 0 rfl) ?_
      refine m_geta F hO hS 40 (by decide) rfl q1437 dX3_holds_18 ?_
      refine lv_bipush (v := 80) hx hb dX3_holds_21 (by decide) ?_
      refine lv_iload_n hx hb dX3_holds_23 rfl (lv_at hl 1 rfl) ?_
      refine lv_imul hx hb dX3_holds_24 ?_
      refine lv_iload hx hb dX3_holds_25 (lv_at hl 6 rfl) ?_
      refine lv_iadd hx hb dX3_holds_27 ?_
      obtain ⟨b13, h⟩ := h
      refine m_iald F hS 40 33 rfl rfl b13 dX3_holds_28 ?_
      refine lv_topi (fun x14 ex14 => ?_)
      have h := h x14 ex14
      refine lv_istore (lv' := [(7, .int x14), (0, .ref (mad g 62)), (1, .int x1), (2, .int x2), (3, .int x3), (4, .int x4), (5, .int x5), (6, .int x6)]) hx hb dX3_holds_29 hl (by decide) rfl (fun ls hl => ?_)
      refine lv_aload_n hx hb dX3_holds_31 rfl (lv_at hl 1 rfl) ?_
      refine m_geta F hO hS 41 (by decide) rfl q1438 dX3_holds_32 ?_
      refine lv_bipush (v := 80) hx hb dX3_holds_35 (by decide) ?_
      refine lv_iload_n hx hb dX3_holds_37 rfl (lv_at hl 2 rfl) ?_
      refine lv_imul hx hb dX3_holds_38 ?_
      refine lv_iload hx hb dX3_holds_39 (lv_at hl 7 rfl) ?_
      refine lv_iadd hx hb dX3_holds_41 ?_
      obtain ⟨b15, h⟩ := h
      refine m_iald F hS 41 34 rfl rfl b15 dX3_holds_42 ?_
      refine lv_topi (fun x16 ex16 => ?_)
      have h := h x16 ex16
      refine lv_istore (lv' := [(8, .int x16), (7, .int x14), (0, .ref (mad g 62)), (1, .int x1), (2, .int x2), (3, .int x3), (4, .int x4), (5, .int x5), (6, .int x6)]) hx hb dX3_holds_43 hl (by decide) rfl (fun ls hl => ?_)
      refine lv_iload hx hb dX3_holds_45 (lv_at hl 1 rfl) ?_
      refine lv_if_eq (tgt := 56) hx hb dX3_holds_47 (by decide) (fun c17 => ?_) (fun c17 => ?_)
      · have h := h.1 c17
        exact (kM_holds_J56 F hO ih) σ x1 x2 x3 x4 x5 x6 x14 x16 H locs ls hS (lv_sub hl [2, 3, 4, 5, 6, 7, 8, 1, 0] rfl) h
      · have h := h.2 c17
        refine lv_iload hx hb dX3_holds_50 (lv_at hl 1 rfl) ?_
        refine lv_iconst (v := 1) hx hb dX3_holds_52 (by decide) ?_
        refine lv_icmp_ne (tgt := 89) hx hb dX3_holds_53 (by decide) (fun c37 => ?_) (fun c37 => ?_)
        · have h := h.1 c37
          refine lv_iload hx hb dX3_holds_89 (lv_at hl 1 rfl) ?_
          refine lv_iconst (v := 5) hx hb dX3_holds_91 (by decide) ?_
          refine lv_icmp_ne (tgt := 118) hx hb dX3_holds_92 (by decide) (fun c38 => ?_) (fun c38 => ?_)
          · have h := h.1 c38
            obtain ⟨x39, ex39⟩ : ∃ y : Int32, y = x5 + (-1) := ⟨_, rfl⟩
            have h := h x39 ex39
            refine lv_iinc (v := x39) (lv' := [(5, .int x39), (8, .int x16), (7, .int x14), (0, .ref (mad g 62)), (1, .int x1), (2, .int x2), (3, .int x3), (4, .int x4), (6, .int x6)]) hx hb dX3_holds_118 hl (k := 7) rfl (by rw [ex39]; rfl) (by decide) rfl (fun ls hl => ?_)
            refine lv_aload_n hx hb dX3_holds_121 rfl (lv_at hl 3 rfl) ?_
            refine m_geta F hO hS 50 (by decide) rfl q1447 dX3_holds_122 ?_
            refine lv_iload hx hb dX3_holds_125 (lv_at hl 0 rfl) ?_
            refine lv_iconst (v := 1) hx hb dX3_holds_127 (by decide) ?_
            refine lv_isub hx hb dX3_holds_128 ?_
            refine lv_iload hx hb dX3_holds_129 (lv_at hl 2 rfl) ?_
            refine lv_aload_n hx hb dX3_holds_131 rfl (lv_at hl 3 rfl) ?_
            refine m_geta F hO hS 50 (by decide) rfl q1447 dX3_holds_132 ?_
            refine lv_iload hx hb dX3_holds_135 (lv_at hl 0 rfl) ?_
            refine lv_iconst (v := 1) hx hb dX3_holds_137 (by decide) ?_
            refine lv_isub hx hb dX3_holds_138 ?_
            obtain ⟨b40, h⟩ := h
            refine m_iald F hS 50 39 rfl rfl b40 dX3_holds_139 ?_
            refine lv_aload_n hx hb dX3_holds_140 rfl (lv_at hl 3 rfl) ?_
            refine m_geta F hO hS 50 (by decide) rfl q1447 dX3_holds_141 ?_
            refine lv_iload hx hb dX3_holds_144 (lv_at hl 0 rfl) ?_
            obtain ⟨b41, h⟩ := h
            refine m_iald F hS 50 39 rfl rfl b41 dX3_holds_146 ?_
            refine gw_callSi (As := [.int x14, .int (σ 50 (x39 - 1).toNatClampNeg), .int (σ 50 x39.toNatClampNeg)]) (rest := [.int (x39 - 1), .ref (mad g 50)]) F hS (tM_done l g hO σ x14 (σ 50 (x39 - 1).toNatClampNeg) (σ 50 x39.toNatClampNeg) _ h) (va_cwS 3 hts (lw_S q1811 q1812 q90 q1813) rfl rfl rfl (by decide +kernel) ⟨Nat.le_of_ble_eq_true rfl, Nat.le_of_ble_eq_true rfl⟩) rfl hl.1 rfl (Nat.le_of_ble_eq_true rfl) dX3_holds_147 ⟨Nat.le_refl 0, Nat.le_refl 0⟩ (fun r43 s42 H locs h hS => ?_)
            obtain ⟨b45, h⟩ := h
            refine m_iast F hO hS 50 39 rfl rfl b45 dX3_holds_150 (fun s44 es44 H locs hS => ?_)
            have h := h s44 es44
            obtain ⟨x46, ex46⟩ : ∃ y : Int32, y = x6 + 1 := ⟨_, rfl⟩
            have h := h x46 ex46
            refine lv_iinc (v := x46) (lv' := [(6, .int x46), (5, .int x39), (8, .int x16), (7, .int x14), (0, .ref (mad g 62)), (1, .int x1), (2, .int x2), (3, .int x3), (4, .int x4)]) hx hb dX3_holds_151 hl (k := 8) rfl (by rw [ex46]; rfl) (by decide) rfl (fun ls hl => ?_)
            refine lv_goto (tgt := 6) hx hb dX3_holds_154 (by decide) ?_
            exact ih s44 x1 x2 x3 x4 x39 x46 H locs ls hS (lv_sub hl [4, 5, 6, 7, 8, 1, 0] rfl) h
          · have h := h.2 c38
            refine lv_aload_n hx hb dX3_holds_95 rfl (lv_at hl 2 rfl) ?_
            refine m_geta F hO hS 50 (by decide) rfl q1447 dX3_holds_96 ?_
            refine lv_iload hx hb dX3_holds_99 (lv_at hl 7 rfl) ?_
            refine lv_iconst (v := 1) hx hb dX3_holds_101 (by decide) ?_
            refine lv_isub hx hb dX3_holds_102 ?_
            refine lv_iconst (v := 1) hx hb dX3_holds_103 (by decide) ?_
            refine lv_aload_n hx hb dX3_holds_104 rfl (lv_at hl 2 rfl) ?_
            refine m_geta F hO hS 50 (by decide) rfl q1447 dX3_holds_105 ?_
            refine lv_iload hx hb dX3_holds_108 (lv_at hl 7 rfl) ?_
            refine lv_iconst (v := 1) hx hb dX3_holds_110 (by decide) ?_
            refine lv_isub hx hb dX3_holds_111 ?_
            obtain ⟨b47, h⟩ := h
            refine m_iald F hS 50 39 rfl rfl b47 dX3_holds_112 ?_
            refine lv_isub hx hb dX3_holds_113 ?_
            obtain ⟨b49, h⟩ := h
            refine m_iast F hO hS 50 39 rfl rfl b49 dX3_holds_114 (fun s48 es48 H locs hS => ?_)
            have h := h s48 es48
            refine lv_goto (tgt := 151) hx hb dX3_holds_115 (by decide) ?_
            obtain ⟨x50, ex50⟩ : ∃ y : Int32, y = x6 + 1 := ⟨_, rfl⟩
            have h := h x50 ex50
            refine lv_iinc (v := x50) (lv' := [(6, .int x50), (8, .int x16), (7, .int x14), (0, .ref (mad g 62)), (1, .int x1), (2, .int x2), (3, .int x3), (4, .int x4), (5, .int x5)]) hx hb dX3_holds_151 hl (k := 8) rfl (by rw [ex50]; rfl) (by decide) rfl (fun ls hl => ?_)
            refine lv_goto (tgt := 6) hx hb dX3_holds_154 (by decide) ?_
            exact ih s48 x1 x2 x3 x4 x5 x50 H locs ls hS (lv_sub hl [3, 4, 5, 6, 7, 8, 0] rfl) h
        · have h := h.2 c37
          exact (kM_holds_J56 F hO ih) σ x1 x2 x3 x4 x5 x6 x14 x16 H locs ls hS (lv_sub hl [2, 3, 4, 5, 6, 7, 8, 1, 0] rfl) h
set_option maxHeartbeats 4000000 in
set_option maxRecDepth 100000 in
theorem kM_holds {p : Program} {l : Launch} {e : Env} {s : State} {m : MethodId} {args : Array Value} {below : List Frame} {meth : Method} {c : Code} {g : MG} {post : Int32 → MS → Prop} (F : gFx p s m c meth args cX3_holds 9 RX3 (some .boolean) (mD g) (mcl g) (mty g)) (hO : MOK g) (σ : MS) (a1 : Int32) (a2 : Int32) (a3 : Int32) (a4 : Int32) (H : Heap) (locs : List Loc) (ls : Array Slot) (hS : gSt (MWd g) (MA g) s σ H locs) (hl : lv_has ls 9 [(0, .ref (mad g 62)), (1, .int a1), (2, .int a2), (3, .int a3), (4, .int a4)]) (h : wM_holds post σ a1 a2 a3 a4) : W p l e rM_holds s m args below meth c H locs 0 0 (MQ below (va_Qi (zpost post) (gB (MWd g)) (MA g)) args s 0 0 (MA g)) (F0 m 0 ls []) := by
  have hx := F.hx
  have hb := F.hb
  have hts := F.1.2.2.2.2
  have hown := F.1.2.2.2.1
  rw [wM_holds] at h
  refine lv_iconst (v := 0) hx hb dX3_holds_0 (by decide) ?_
  refine lv_istore (lv' := [(5, .int 0), (0, .ref (mad g 62)), (1, .int a1), (2, .int a2), (3, .int a3), (4, .int a4)]) hx hb dX3_holds_1 hl (by decide) rfl (fun ls hl => ?_)
  refine lv_iconst (v := 0) hx hb dX3_holds_3 (by decide) ?_
  refine lv_istore (lv' := [(6, .int 0), (5, .int 0), (0, .ref (mad g 62)), (1, .int a1), (2, .int a2), (3, .int a3), (4, .int a4)]) hx hb dX3_holds_4 hl (by decide) rfl (fun ls hl => ?_)
  obtain ⟨n51, h⟩ := h
  exact (kM_holds_L6 F hO n51) σ a1 a2 a3 a4 0 0 H locs ls hS (lv_sub hl [2, 3, 4, 5, 6, 1, 0] rfl) h
set_option maxHeartbeats 4000000 in
set_option maxRecDepth 100000 in
theorem tM_holds (l : Launch) (g : MG) (hO : MOK g) (σ : MS) (a1 : Int32) (a2 : Int32) (a3 : Int32) (a4 : Int32) (post : Int32 → MS → Prop) (h : wM_holds post σ a1 a2 a3 a4) : Met l yX3_holds (ws_ yX3_holds cX3_holds 9 (some .boolean)) rM_holds (va_Pc [.ref (mad g 62), .int a1, .int a2, .int a3, .int a4] (gPre (MWd g) (mD g) (mcl g) (mty g) σ)) (va_Qi (zpost post) (gB (MWd g)) (MA g)) 0 0 (MA g) := by
  refine Met.ofW (cc := cX3_holds) (maxL := 9) (ret := (some .boolean)) (by decide) rfl ?_
  intro p e s m args below meth c s₁ B hml hv
  obtain ⟨rfl, hW, hK⟩ := hv
  have hts := atoms_spec (ws := (ws_ yX3_holds cX3_holds 9 (some .boolean))) B.pre
  have hts : ∀ w ∈ lw_all, w.before _ s = true := fun w h => hts w (List.mem_cons_of_mem _ h)
  have hl := lv_entry ([.ref (mad g 62), .int a1, .int a2, .int a3, .int a4]) (n := 9) (Nat.le_of_ble_eq_true rfl)
  rw [lg_entry_eq]
  generalize (lg_sl ([.ref (mad g 62), .int a1, .int a2, .int a3, .int a4]) ++ List.replicate (9 - (lg_sl ([.ref (mad g 62), .int a1, .int a2, .int a3, .int a4])).length) Slot.unset).toArray = ls at hl ⊢
  exact kM_holds ⟨⟨B.exec, B.bytes, hml, findClass_of_methodNamed B.named, hts⟩, hK, B.returns, B.notSynchronized⟩ hO σ a1 a2 a3 a4 s.heap [] ls ⟨hW, va_S.rf⟩ hl h
def wM_whyOf_L3 (post : Int32 → MS → Prop) : Nat → MS → Int32 → Int32 → Int32 → Int32 → Int32 → Prop
  | 0, _, _, _, _, _, _ => False
  | n + 1, σ, x1, x2, x3, x4, x5 => ((σ 33 0) ≤ x5 → post (-4) σ) ∧ (¬ ((σ 33 0) ≤ x5) → (vp_in x5 16 ∧ ((((σ 34 x5.toNatClampNeg) = x1 → vp_in x5 16 ∧ vp_in x3 16 ∧ ((((σ 35 x5.toNatClampNeg) >>> ((σ 3 x3.toNatClampNeg) &&& 31)) &&& 1) = 1 → vp_in x5 16 ∧ (¬ (x4 < (σ 37 x5.toNatClampNeg)) → vp_in x5 16 ∧ (¬ ((σ 38 x5.toNatClampNeg) < x4) → vp_in x5 16))))) ∧ ∀ v13 : Int32, v13 = (if (σ 34 x5.toNatClampNeg) = x1 then if (((σ 35 x5.toNatClampNeg) >>> ((σ 3 x3.toNatClampNeg) &&& 31)) &&& 1) = 1 then if x4 < (σ 37 x5.toNatClampNeg) then 0 else if (σ 38 x5.toNatClampNeg) < x4 then 0 else if (σ 39 x5.toNatClampNeg) ≤ x4 then 0 else 1 else 0 else 0) → (v13 = 0 → (∀ x17 : Int32, x17 = x5 + 1 → wM_whyOf_L3 post n σ x1 x2 x3 x4 x17)) ∧ (¬ (v13 = 0) → wM_holds (fun r19 s18 => (r19 = 0 → (∀ x21 : Int32, x21 = x5 + 1 → wM_whyOf_L3 post n s18 x1 x2 x3 x4 x21)) ∧ (¬ (r19 = 0) → post x5 s18)) σ x5 x2 x3 x4))))
def wM_whyOf (post : Int32 → MS → Prop) (σ : MS) (a1 : Int32) (a2 : Int32) (a3 : Int32) (a4 : Int32) : Prop := ∃ n22, wM_whyOf_L3 post n22 σ a1 a2 a3 a4 0
abbrev rM_whyOf : Room := { frames := 3, cells := 0, slots := 0, locals := 75 }
set_option maxHeartbeats 4000000 in
set_option maxRecDepth 100000 in
theorem kM_whyOf_L3 {p : Program} {l : Launch} {e : Env} {s : State} {m : MethodId} {args : Array Value} {below : List Frame} {meth : Method} {c : Code} {g : MG} {post : Int32 → MS → Prop} (F : gFx p s m c meth args cX3_whyOf 7 RX3 (some .int) (mD g) (mcl g) (mty g)) (hO : MOK g) : ∀ (n : Nat) (σ : MS) (x1 : Int32) (x2 : Int32) (x3 : Int32) (x4 : Int32) (x5 : Int32) (H : Heap) (locs : List Loc) (ls : Array Slot), gSt (MWd g) (MA g) s σ H locs → lv_has ls 7 [(0, .ref (mad g 62)), (1, .int x1), (2, .int x2), (3, .int x3), (4, .int x4), (5, .int x5)] → wM_whyOf_L3 post n σ x1 x2 x3 x4 x5 → W p l e rM_whyOf s m args below meth c H locs 0 0 (MQ below (va_Qi post (gB (MWd g)) (MA g)) args s 0 0 (MA g)) (F0 m 3 ls []) := by
  have hx := F.hx
  have hb := F.hb
  have hts := F.1.2.2.2.2
  have hown := F.1.2.2.2.1
  intro n
  induction n with
  | zero =>
    intro σ x1 x2 x3 x4 x5 H locs ls hS hl h
    exact False.elim h
  | succ n ih =>
    intro σ x1 x2 x3 x4 x5 H locs ls hS hl h
    rw [wM_whyOf_L3] at h
    refine lv_iload hx hb dX3_whyOf_3 (lv_at hl 5 rfl) ?_
    refine lv_aload_n hx hb dX3_whyOf_5 rfl (lv_at hl 0 rfl) ?_
    refine m_geti F hO hS 33 (by decide) rfl q1430 dX3_whyOf_6 ?_
    refine lv_icmp_ge (tgt := 113) hx hb dX3_whyOf_9 (by decide) (fun c6 => ?_) (fun c6 => ?_)
    · have h := h.1 c6
      refine lv_bipush (v := (-4)) hx hb dX3_whyOf_113 (by decide) ?_
      exact gw_iret F hS h dX3_whyOf_115
    · have h := h.2 c6
      refine lv_aload_n hx hb dX3_whyOf_12 rfl (lv_at hl 0 rfl) ?_
      refine m_geta F hO hS 34 (by decide) rfl q1431 dX3_whyOf_13 ?_
      refine lv_iload hx hb dX3_whyOf_16 (lv_at hl 5 rfl) ?_
      obtain ⟨b7, h⟩ := h
      refine m_iald F hS 34 27 rfl rfl b7 dX3_whyOf_18 ?_
      refine lv_iload_n hx hb dX3_whyOf_19 rfl (lv_at hl 1 rfl) ?_
      obtain ⟨b14, h⟩ := h
      refine gcut (P := ∀ (v13 : Int32) (H : Heap) (locs : List Loc) (ls : Array Slot), v13 = (if (σ 34 x5.toNatClampNeg) = x1 then if (((σ 35 x5.toNatClampNeg) >>> ((σ 3 x3.toNatClampNeg) &&& 31)) &&& 1) = 1 then if x4 < (σ 37 x5.toNatClampNeg) then 0 else if (σ 38 x5.toNatClampNeg) < x4 then 0 else if (σ 39 x5.toNatClampNeg) ≤ x4 then 0 else 1 else 0 else 0) → gSt (MWd g) (MA g) s σ H locs → lv_has ls 7 [(0, .ref (mad g 62)), (1, .int x1), (2, .int x2), (3, .int x3), (4, .int x4), (5, .int x5)] → W p l e rM_whyOf s m args below meth c H locs 0 0 (MQ below (va_Qi post (gB (MWd g)) (MA g)) args s 0 0 (MA g)) (F0 m 84 ls [.int v13])) (fun v13 H locs ls ev13 hS hl => ?_) (fun J15 => ?_)
      · have h := h v13 ev13
        refine lv_istore (lv' := [(6, .int v13), (0, .ref (mad g 62)), (1, .int x1), (2, .int x2), (3, .int x3), (4, .int x4), (5, .int x5)]) hx hb dX3_whyOf_84 hl (by decide) rfl (fun ls hl => ?_)
        refine lv_iload hx hb dX3_whyOf_86 (lv_at hl 0 rfl) ?_
        refine lv_if_eq (tgt := 107) hx hb dX3_whyOf_88 (by decide) (fun c16 => ?_) (fun c16 => ?_)
        · have h := h.1 c16
          obtain ⟨x17, ex17⟩ : ∃ y : Int32, y = x5 + 1 := ⟨_, rfl⟩
          have h := h x17 ex17
          refine lv_iinc (v := x17) (lv' := [(5, .int x17), (6, .int v13), (0, .ref (mad g 62)), (1, .int x1), (2, .int x2), (3, .int x3), (4, .int x4)]) hx hb dX3_whyOf_107 hl (k := 6) rfl (by rw [ex17]; rfl) (by decide) rfl (fun ls hl => ?_)
          refine lv_goto (tgt := 3) hx hb dX3_whyOf_110 (by decide) ?_
          exact ih σ x1 x2 x3 x4 x17 H locs ls hS (lv_sub hl [2, 3, 4, 5, 6, 0] rfl) h
        · have h := h.2 c16
          refine lv_aload_n hx hb dX3_whyOf_91 rfl (lv_at hl 1 rfl) ?_
          refine lv_iload hx hb dX3_whyOf_92 (lv_at hl 6 rfl) ?_
          refine lv_iload_n hx hb dX3_whyOf_94 rfl (lv_at hl 3 rfl) ?_
          refine lv_iload_n hx hb dX3_whyOf_95 rfl (lv_at hl 4 rfl) ?_
          refine lv_iload hx hb dX3_whyOf_96 (lv_at hl 5 rfl) ?_
          refine gw_callVi (As := [.int x5, .int x2, .int x3, .int x4]) (rest := []) F hS (tM_holds l g hO σ x5 x2 x3 x4 _ h) (cwV 4 hts (lw_V q1803 q1805 qs62 q90 q1806) rfl rfl rfl (by decide +kernel) ⟨Nat.le_of_ble_eq_true rfl, Nat.le_of_ble_eq_true rfl⟩) (m_rec F hO hS) rfl hl.1 rfl (Nat.le_of_ble_eq_true rfl) dX3_whyOf_98 ⟨Nat.le_refl 0, Nat.le_refl 0⟩ (fun r19 s18 H locs h hS => ?_)
          obtain ⟨zr19, h⟩ := h
          refine lv_if_eq (tgt := 107) hx hb dX3_whyOf_101 (by decide) (fun c20 => ?_) (fun c20 => ?_)
          · have h := h.1 c20
            obtain ⟨x21, ex21⟩ : ∃ y : Int32, y = x5 + 1 := ⟨_, rfl⟩
            have h := h x21 ex21
            refine lv_iinc (v := x21) (lv' := [(5, .int x21), (6, .int v13), (0, .ref (mad g 62)), (1, .int x1), (2, .int x2), (3, .int x3), (4, .int x4)]) hx hb dX3_whyOf_107 hl (k := 6) rfl (by rw [ex21]; rfl) (by decide) rfl (fun ls hl => ?_)
            refine lv_goto (tgt := 3) hx hb dX3_whyOf_110 (by decide) ?_
            exact ih s18 x1 x2 x3 x4 x21 H locs ls hS (lv_sub hl [2, 3, 4, 5, 6, 0] rfl) h
          · have h := h.2 c20
            refine lv_iload hx hb dX3_whyOf_104 (lv_at hl 6 rfl) ?_
            exact gw_iret F hS h dX3_whyOf_106
      · refine lv_icmp_ne (tgt := 83) hx hb dX3_whyOf_20 (by decide) (fun c8 => ?_) (fun c8 => ?_)
        · refine lv_iconst (v := 0) hx hb dX3_whyOf_83 (by decide) ?_
          exact J15 _ H locs ls (by first | with_reducible rfl | ((try rw [if_neg c8]); done)) hS (lv_sub hl [0, 1, 2, 3, 4, 5] rfl)
        · refine lv_aload_n hx hb dX3_whyOf_23 rfl (lv_at hl 0 rfl) ?_
          refine m_geta F hO hS 35 (by decide) rfl q1432 dX3_whyOf_24 ?_
          refine lv_iload hx hb dX3_whyOf_27 (lv_at hl 5 rfl) ?_
          refine m_iald F hS 35 28 rfl rfl ((b14 c8).1) dX3_whyOf_29 ?_
          refine lv_aload_n hx hb dX3_whyOf_30 rfl (lv_at hl 0 rfl) ?_
          refine m_geta F hO hS 3 (by decide) rfl q1400 dX3_whyOf_31 ?_
          refine lv_iload_n hx hb dX3_whyOf_34 rfl (lv_at hl 3 rfl) ?_
          refine m_iald F hS 3 1 rfl rfl ((b14 c8).2.1) dX3_whyOf_35 ?_
          refine lv_ishr hx hb dX3_whyOf_36 ?_
          refine lv_iconst (v := 1) hx hb dX3_whyOf_37 (by decide) ?_
          refine lv_iand hx hb dX3_whyOf_38 ?_
          refine lv_iconst (v := 1) hx hb dX3_whyOf_39 (by decide) ?_
          refine lv_icmp_ne (tgt := 83) hx hb dX3_whyOf_40 (by decide) (fun c9 => ?_) (fun c9 => ?_)
          · refine lv_iconst (v := 0) hx hb dX3_whyOf_83 (by decide) ?_
            exact J15 _ H locs ls (by first | with_reducible rfl | ((try rw [if_pos c8]); (try rw [if_neg c9]); done)) hS (lv_sub hl [0, 1, 2, 3, 4, 5] rfl)
          · refine lv_aload_n hx hb dX3_whyOf_43 rfl (lv_at hl 0 rfl) ?_
            refine m_geta F hO hS 37 (by decide) rfl q1434 dX3_whyOf_44 ?_
            refine lv_iload hx hb dX3_whyOf_47 (lv_at hl 5 rfl) ?_
            refine m_iald F hS 37 30 rfl rfl (((b14 c8).2.2 c9).1) dX3_whyOf_49 ?_
            refine lv_iload hx hb dX3_whyOf_50 (lv_at hl 4 rfl) ?_
            refine lv_icmp_gt (tgt := 83) hx hb dX3_whyOf_52 (by decide) (fun c10 => ?_) (fun c10 => ?_)
            · refine lv_iconst (v := 0) hx hb dX3_whyOf_83 (by decide) ?_
              exact J15 _ H locs ls (by first | with_reducible rfl | ((try rw [if_pos c8]); (try rw [if_pos c9]); (try rw [if_pos c10]); done)) hS (lv_sub hl [0, 1, 2, 3, 4, 5] rfl)
            · refine lv_iload hx hb dX3_whyOf_55 (lv_at hl 4 rfl) ?_
              refine lv_aload_n hx hb dX3_whyOf_57 rfl (lv_at hl 0 rfl) ?_
              refine m_geta F hO hS 38 (by decide) rfl q1435 dX3_whyOf_58 ?_
              refine lv_iload hx hb dX3_whyOf_61 (lv_at hl 5 rfl) ?_
              refine m_iald F hS 38 31 rfl rfl ((((b14 c8).2.2 c9).2 c10).1) dX3_whyOf_63 ?_
              refine lv_icmp_gt (tgt := 83) hx hb dX3_whyOf_64 (by decide) (fun c11 => ?_) (fun c11 => ?_)
              · refine lv_iconst (v := 0) hx hb dX3_whyOf_83 (by decide) ?_
                exact J15 _ H locs ls (by first | with_reducible rfl | ((try rw [if_pos c8]); (try rw [if_pos c9]); (try rw [if_neg c10]); (try rw [if_pos c11]); done)) hS (lv_sub hl [0, 1, 2, 3, 4, 5] rfl)
              · refine lv_aload_n hx hb dX3_whyOf_67 rfl (lv_at hl 0 rfl) ?_
                refine m_geta F hO hS 39 (by decide) rfl q1436 dX3_whyOf_68 ?_
                refine lv_iload hx hb dX3_whyOf_71 (lv_at hl 5 rfl) ?_
                refine m_iald F hS 39 32 rfl rfl (((((b14 c8).2.2 c9).2 c10).2 c11)) dX3_whyOf_73 ?_
                refine lv_iload hx hb dX3_whyOf_74 (lv_at hl 4 rfl) ?_
                refine lv_icmp_le (tgt := 83) hx hb dX3_whyOf_76 (by decide) (fun c12 => ?_) (fun c12 => ?_)
                · refine lv_iconst (v := 0) hx hb dX3_whyOf_83 (by decide) ?_
                  exact J15 _ H locs ls (by first | with_reducible rfl | ((try rw [if_pos c8]); (try rw [if_pos c9]); (try rw [if_neg c10]); (try rw [if_neg c11]); (try rw [if_pos c12]); done)) hS (lv_sub hl [0, 1, 2, 3, 4, 5] rfl)
                · refine lv_iconst (v := 1) hx hb dX3_whyOf_79 (by decide) ?_
                  refine lv_goto (tgt := 84) hx hb dX3_whyOf_80 (by decide) ?_
                  exact J15 _ H locs ls (by first | with_reducible rfl | ((try rw [if_pos c8]); (try rw [if_pos c9]); (try rw [if_neg c10]); (try rw [if_neg c11]); (try rw [if_neg c12]); done)) hS (lv_sub hl [0, 1, 2, 3, 4, 5] rfl)
set_option maxHeartbeats 4000000 in
set_option maxRecDepth 100000 in
theorem kM_whyOf {p : Program} {l : Launch} {e : Env} {s : State} {m : MethodId} {args : Array Value} {below : List Frame} {meth : Method} {c : Code} {g : MG} {post : Int32 → MS → Prop} (F : gFx p s m c meth args cX3_whyOf 7 RX3 (some .int) (mD g) (mcl g) (mty g)) (hO : MOK g) (σ : MS) (a1 : Int32) (a2 : Int32) (a3 : Int32) (a4 : Int32) (H : Heap) (locs : List Loc) (ls : Array Slot) (hS : gSt (MWd g) (MA g) s σ H locs) (hl : lv_has ls 7 [(0, .ref (mad g 62)), (1, .int a1), (2, .int a2), (3, .int a3), (4, .int a4)]) (h : wM_whyOf post σ a1 a2 a3 a4) : W p l e rM_whyOf s m args below meth c H locs 0 0 (MQ below (va_Qi post (gB (MWd g)) (MA g)) args s 0 0 (MA g)) (F0 m 0 ls []) := by
  have hx := F.hx
  have hb := F.hb
  have hts := F.1.2.2.2.2
  have hown := F.1.2.2.2.1
  rw [wM_whyOf] at h
  refine lv_iconst (v := 0) hx hb dX3_whyOf_0 (by decide) ?_
  refine lv_istore (lv' := [(5, .int 0), (0, .ref (mad g 62)), (1, .int a1), (2, .int a2), (3, .int a3), (4, .int a4)]) hx hb dX3_whyOf_1 hl (by decide) rfl (fun ls hl => ?_)
  obtain ⟨n22, h⟩ := h
  exact (kM_whyOf_L3 F hO n22) σ a1 a2 a3 a4 0 H locs ls hS (lv_sub hl [1, 2, 3, 4, 5, 0] rfl) h
set_option maxHeartbeats 4000000 in
set_option maxRecDepth 100000 in
theorem tM_whyOf (l : Launch) (g : MG) (hO : MOK g) (σ : MS) (a1 : Int32) (a2 : Int32) (a3 : Int32) (a4 : Int32) (post : Int32 → MS → Prop) (h : wM_whyOf post σ a1 a2 a3 a4) : Met l yX3_whyOf (ws_ yX3_whyOf cX3_whyOf 7 (some .int)) rM_whyOf (va_Pc [.ref (mad g 62), .int a1, .int a2, .int a3, .int a4] (gPre (MWd g) (mD g) (mcl g) (mty g) σ)) (va_Qi post (gB (MWd g)) (MA g)) 0 0 (MA g) := by
  refine Met.ofW (cc := cX3_whyOf) (maxL := 7) (ret := (some .int)) (by decide) rfl ?_
  intro p e s m args below meth c s₁ B hml hv
  obtain ⟨rfl, hW, hK⟩ := hv
  have hts := atoms_spec (ws := (ws_ yX3_whyOf cX3_whyOf 7 (some .int))) B.pre
  have hts : ∀ w ∈ lw_all, w.before _ s = true := fun w h => hts w (List.mem_cons_of_mem _ h)
  have hl := lv_entry ([.ref (mad g 62), .int a1, .int a2, .int a3, .int a4]) (n := 7) (Nat.le_of_ble_eq_true rfl)
  rw [lg_entry_eq]
  generalize (lg_sl ([.ref (mad g 62), .int a1, .int a2, .int a3, .int a4]) ++ List.replicate (7 - (lg_sl ([.ref (mad g 62), .int a1, .int a2, .int a3, .int a4])).length) Slot.unset).toArray = ls at hl ⊢
  exact kM_whyOf ⟨⟨B.exec, B.bytes, hml, findClass_of_methodNamed B.named, hts⟩, hK, B.returns, B.notSynchronized⟩ hO σ a1 a2 a3 a4 s.heap [] ls ⟨hW, va_S.rf⟩ hl h
def wM_search_L190 (post : Int32 → MS → Prop) : Nat → MS → Int32 → Int32 → Int32 → Prop
  | 0, _, _, _, _ => False
  | n + 1, σ, x16, x17, x18 => ((σ 18 0) ≤ x18 → (vp_in (σ 30 0) 40 ∧ ∀ s20 : MS, s20 = up2 σ 31 (σ 30 0).toNatClampNeg x16 → vp_in (s20 30 0) 40 ∧ ∀ s22 : MS, s22 = up2 s20 32 (s20 30 0).toNatClampNeg (s20 0 0) → ∀ s24 : MS, s24 = up2 s22 30 0 ((s22 30 0) + 1) → post x17 s24)) ∧ (¬ ((σ 18 0) ≤ x18) → (((¬ (((x17 >>> (x18 &&& 31)) &&& 1) = 1) → vp_in x18 16)) ∧ ∀ v26 : Int32, v26 = (if ((x17 >>> (x18 &&& 31)) &&& 1) = 1 then 200 else σ 21 x18.toNatClampNeg) → (vp_in x18 16 ∧ ∀ s29 : MS, s29 = up2 σ 21 x18.toNatClampNeg v26 → ∀ x31 : Int32, x31 = x18 + 1 → wM_search_L190 post n s29 x16 x17 x31)))
def wM_search_L47 (post : Int32 → MS → Prop) : Nat → MS → Int32 → Int32 → Int32 → Int32 → Int32 → Prop
  | 0, _, _, _, _, _, _ => False
  | n + 1, σ, x10, x11, x12, x13, x14 => ((σ 18 0) ≤ x14 → ∃ n32, wM_search_L190 post n32 σ x12 x13 0) ∧ (¬ ((σ 18 0) ≤ x14) → (vp_in x12 16 ∧ (((¬ ((σ 2 x12.toNatClampNeg) = 0) → vp_in x14 16 ∧ ((σ 23 x14.toNatClampNeg) = 0 → vp_in x12 16) ∧ (¬ ((σ 23 x14.toNatClampNeg) = 0) → vp_in x12 16))) ∧ ∀ v38 : Int32, v38 = (if (σ 2 x12.toNatClampNeg) = 0 then 1 else if (σ 23 x14.toNatClampNeg) = 0 then if (x11 + (σ 7 x12.toNatClampNeg)) < 2 then 0 else 1 else if x11 < (σ 6 x12.toNatClampNeg) then 0 else 1) → (vp_in x14 16 ∧ ((((σ 21 x14.toNatClampNeg) = x12 → vp_in x10 6)) ∧ ∀ v45 : Int32, v45 = (if (σ 21 x14.toNatClampNeg) = x12 then if (((σ 29 x10.toNatClampNeg) >>> (x14 &&& 31)) &&& 1) = 1 then if v38 = 0 then 0 else 1 else 0 else 0) → (v45 = 0 → (∀ x49 : Int32, x49 = x13 ||| 0 → ∀ x50 : Int32, x50 = x14 + 1 → wM_search_L47 post n σ x10 x11 x12 x49 x50)) ∧ (¬ (v45 = 0) → wM_whyOf (fun r52 s51 => (∀ v54 : Int32, v54 = (if r52 < 0 then 0 else (1 : Int32) <<< (x14 &&& 31)) → (∀ x56 : Int32, x56 = x13 ||| v54 → ∀ x57 : Int32, x57 = x14 + 1 → wM_search_L47 post n s51 x10 x11 x12 x56 x57))) σ 0 x14 x12 ((σ 0 0) / 24)))))))
def wM_search (post : Int32 → MS → Prop) (σ : MS) (a1 : Int32) (a2 : Int32) : Prop := wM_isHunter (fun r2 s1 => (r2 = 0 → post (-1) s1) ∧ (¬ (r2 = 0) → wM_in (fun r5 s4 => (¬ (r5 = 0) → (¬ ((s4 30 0) = 40) → (vp_in a1 6 ∧ ∀ x9 : Int32, x9 = s4 28 a1.toNatClampNeg → ∃ n58, wM_search_L47 post n58 s4 a1 a2 x9 0 0)) ∧ ((s4 30 0) = 40 → post (-3) s4)) ∧ (r5 = 0 → post (-1) s4)) s1 a2.toInt64 0 24)) σ a1
abbrev rM_search : Room := { frames := 4, cells := 0, slots := 0, locals := 101 }
set_option maxHeartbeats 4000000 in
set_option maxRecDepth 100000 in
theorem kM_search_L190 {p : Program} {l : Launch} {e : Env} {s : State} {m : MethodId} {args : Array Value} {below : List Frame} {meth : Method} {c : Code} {g : MG} {post : Int32 → MS → Prop} (F : gFx p s m c meth args cX3_search 8 RX3 (some .int) (mD g) (mcl g) (mty g)) (hO : MOK g) : ∀ (n : Nat) (σ : MS) (x16 : Int32) (x17 : Int32) (x18 : Int32) (H : Heap) (locs : List Loc) (ls : Array Slot), gSt (MWd g) (MA g) s σ H locs → lv_has ls 8 [(0, .ref (mad g 62)), (3, .int x16), (4, .int x17), (5, .int x18)] → wM_search_L190 post n σ x16 x17 x18 → W p l e rM_search s m args below meth c H locs 0 0 (MQ below (va_Qi post (gB (MWd g)) (MA g)) args s 0 0 (MA g)) (F0 m 190 ls []) := by
  have hx := F.hx
  have hb := F.hb
  have hts := F.1.2.2.2.2
  have hown := F.1.2.2.2.1
  intro n
  induction n with
  | zero =>
    intro σ x16 x17 x18 H locs ls hS hl h
    exact False.elim h
  | succ n ih =>
    intro σ x16 x17 x18 H locs ls hS hl h
    rw [wM_search_L190] at h
    refine lv_iload hx hb dX3_search_190 (lv_at hl 3 rfl) ?_
    refine lv_aload_n hx hb dX3_search_192 rfl (lv_at hl 0 rfl) ?_
    refine m_geti F hO hS 18 (by decide) rfl q1415 dX3_search_193 ?_
    refine lv_icmp_ge (tgt := 236) hx hb dX3_search_196 (by decide) (fun c19 => ?_) (fun c19 => ?_)
    · have h := h.1 c19
      refine lv_aload_n hx hb dX3_search_236 rfl (lv_at hl 0 rfl) ?_
      refine m_geta F hO hS 31 (by decide) rfl q1428 dX3_search_237 ?_
      refine lv_aload_n hx hb dX3_search_240 rfl (lv_at hl 0 rfl) ?_
      refine m_geti F hO hS 30 (by decide) rfl q1427 dX3_search_241 ?_
      refine lv_iload_n hx hb dX3_search_244 rfl (lv_at hl 1 rfl) ?_
      obtain ⟨b21, h⟩ := h
      refine m_iast F hO hS 31 25 rfl rfl b21 dX3_search_245 (fun s20 es20 H locs hS => ?_)
      have h := h s20 es20
      refine lv_aload_n hx hb dX3_search_246 rfl (lv_at hl 0 rfl) ?_
      refine m_geta F hO hS 32 (by decide) rfl q1429 dX3_search_247 ?_
      refine lv_aload_n hx hb dX3_search_250 rfl (lv_at hl 0 rfl) ?_
      refine m_geti F hO hS 30 (by decide) rfl q1427 dX3_search_251 ?_
      refine lv_aload_n hx hb dX3_search_254 rfl (lv_at hl 0 rfl) ?_
      refine m_geti F hO hS 0 (by decide) rfl q1397 dX3_search_255 ?_
      obtain ⟨b23, h⟩ := h
      refine m_iast F hO hS 32 26 rfl rfl b23 dX3_search_258 (fun s22 es22 H locs hS => ?_)
      have h := h s22 es22
      refine lv_aload_n hx hb dX3_search_259 rfl (lv_at hl 0 rfl) ?_
      refine lv_dup hx hb dX3_search_260 rfl ?_
      refine m_geti F hO hS 30 (by decide) rfl q1427 dX3_search_261 ?_
      refine lv_iconst (v := 1) hx hb dX3_search_264 (by decide) ?_
      refine lv_iadd hx hb dX3_search_265 ?_
      refine m_puti F hO hS 30 (by decide) rfl q1427 rfl (by decide +kernel) dX3_search_266 (fun s24 es24 H locs hS => ?_)
      have h := h s24 es24
      refine lv_iload hx hb dX3_search_269 (lv_at hl 2 rfl) ?_
      exact gw_iret F hS h dX3_search_271
    · have h := h.2 c19
      refine lv_aload_n hx hb dX3_search_199 rfl (lv_at hl 0 rfl) ?_
      refine m_geta F hO hS 21 (by decide) rfl q1418 dX3_search_200 ?_
      refine lv_iload hx hb dX3_search_203 (lv_at hl 3 rfl) ?_
      refine lv_iload hx hb dX3_search_205 (lv_at hl 2 rfl) ?_
      refine lv_iload hx hb dX3_search_207 (lv_at hl 3 rfl) ?_
      refine lv_ishr hx hb dX3_search_209 ?_
      refine lv_iconst (v := 1) hx hb dX3_search_210 (by decide) ?_
      refine lv_iand hx hb dX3_search_211 ?_
      refine lv_iconst (v := 1) hx hb dX3_search_212 (by decide) ?_
      obtain ⟨b27, h⟩ := h
      refine gcut (P := ∀ (v26 : Int32) (H : Heap) (locs : List Loc) (ls : Array Slot), v26 = (if ((x17 >>> (x18 &&& 31)) &&& 1) = 1 then 200 else σ 21 x18.toNatClampNeg) → gSt (MWd g) (MA g) s σ H locs → lv_has ls 8 [(0, .ref (mad g 62)), (3, .int x16), (4, .int x17), (5, .int x18)] → W p l e rM_search s m args below meth c H locs 0 0 (MQ below (va_Qi post (gB (MWd g)) (MA g)) args s 0 0 (MA g)) (F0 m 229 ls [.int v26, .int x18, .ref (mad g 21)])) (fun v26 H locs ls ev26 hS hl => ?_) (fun J28 => ?_)
      · have h := h v26 ev26
        obtain ⟨b30, h⟩ := h
        refine m_iast F hO hS 21 17 rfl rfl b30 dX3_search_229 (fun s29 es29 H locs hS => ?_)
        have h := h s29 es29
        obtain ⟨x31, ex31⟩ : ∃ y : Int32, y = x18 + 1 := ⟨_, rfl⟩
        have h := h x31 ex31
        refine lv_iinc (v := x31) (lv' := [(5, .int x31), (0, .ref (mad g 62)), (3, .int x16), (4, .int x17)]) hx hb dX3_search_230 hl (k := 3) rfl (by rw [ex31]; rfl) (by decide) rfl (fun ls hl => ?_)
        refine lv_goto (tgt := 190) hx hb dX3_search_233 (by decide) ?_
        exact ih s29 x16 x17 x31 H locs ls hS (lv_sub hl [1, 2, 3, 0] rfl) h
      · refine lv_icmp_ne (tgt := 222) hx hb dX3_search_213 (by decide) (fun c25 => ?_) (fun c25 => ?_)
        · refine lv_aload_n hx hb dX3_search_222 rfl (lv_at hl 0 rfl) ?_
          refine m_geta F hO hS 21 (by decide) rfl q1418 dX3_search_223 ?_
          refine lv_iload hx hb dX3_search_226 (lv_at hl 3 rfl) ?_
          refine m_iald F hS 21 17 rfl rfl ((b27 c25)) dX3_search_228 ?_
          exact J28 _ H locs ls (by first | with_reducible rfl | ((try rw [if_neg c25]); done)) hS (lv_sub hl [0, 1, 2, 3] rfl)
        · refine lv_sipush (v := 200) hx hb dX3_search_216 (by decide) ?_
          refine lv_goto (tgt := 229) hx hb dX3_search_219 (by decide) ?_
          exact J28 _ H locs ls (by first | with_reducible rfl | ((try rw [if_pos c25]); done)) hS (lv_sub hl [0, 1, 2, 3] rfl)
set_option maxHeartbeats 4000000 in
set_option maxRecDepth 100000 in
theorem kM_search_L47 {p : Program} {l : Launch} {e : Env} {s : State} {m : MethodId} {args : Array Value} {below : List Frame} {meth : Method} {c : Code} {g : MG} {post : Int32 → MS → Prop} (F : gFx p s m c meth args cX3_search 8 RX3 (some .int) (mD g) (mcl g) (mty g)) (hO : MOK g) : ∀ (n : Nat) (σ : MS) (x10 : Int32) (x11 : Int32) (x12 : Int32) (x13 : Int32) (x14 : Int32) (H : Heap) (locs : List Loc) (ls : Array Slot), gSt (MWd g) (MA g) s σ H locs → lv_has ls 8 [(0, .ref (mad g 62)), (1, .int x10), (2, .int x11), (3, .int x12), (4, .int x13), (5, .int x14)] → wM_search_L47 post n σ x10 x11 x12 x13 x14 → W p l e rM_search s m args below meth c H locs 0 0 (MQ below (va_Qi post (gB (MWd g)) (MA g)) args s 0 0 (MA g)) (F0 m 47 ls []) := by
  have hx := F.hx
  have hb := F.hb
  have hts := F.1.2.2.2.2
  have hown := F.1.2.2.2.1
  intro n
  induction n with
  | zero =>
    intro σ x10 x11 x12 x13 x14 H locs ls hS hl h
    exact False.elim h
  | succ n ih =>
    intro σ x10 x11 x12 x13 x14 H locs ls hS hl h
    rw [wM_search_L47] at h
    refine lv_iload hx hb dX3_search_47 (lv_at hl 5 rfl) ?_
    refine lv_aload_n hx hb dX3_search_49 rfl (lv_at hl 0 rfl) ?_
    refine m_geti F hO hS 18 (by decide) rfl q1415 dX3_search_50 ?_
    refine lv_icmp_ge (tgt := 187) hx hb dX3_search_53 (by decide) (fun c15 => ?_) (fun c15 => ?_)
    · have h := h.1 c15
      refine lv_iconst (v := 0) hx hb dX3_search_187 (by decide) ?_
      refine lv_istore (lv' := [(5, .int 0), (0, .ref (mad g 62)), (1, .int x10), (2, .int x11), (3, .int x12), (4, .int x13)]) hx hb dX3_search_188 hl (by decide) rfl (fun ls hl => ?_)
      obtain ⟨n32, h⟩ := h
      exact (kM_search_L190 F hO n32) σ x12 x13 0 H locs ls hS (lv_sub hl [1, 4, 5, 0] rfl) h
    · have h := h.2 c15
      refine lv_aload_n hx hb dX3_search_56 rfl (lv_at hl 0 rfl) ?_
      refine m_geta F hO hS 2 (by decide) rfl q1399 dX3_search_57 ?_
      refine lv_iload_n hx hb dX3_search_60 rfl (lv_at hl 3 rfl) ?_
      obtain ⟨b33, h⟩ := h
      refine m_iald F hS 2 0 rfl rfl b33 dX3_search_61 ?_
      obtain ⟨b39, h⟩ := h
      refine gcut (P := ∀ (v38 : Int32) (H : Heap) (locs : List Loc) (ls : Array Slot), v38 = (if (σ 2 x12.toNatClampNeg) = 0 then 1 else if (σ 23 x14.toNatClampNeg) = 0 then if (x11 + (σ 7 x12.toNatClampNeg)) < 2 then 0 else 1 else if x11 < (σ 6 x12.toNatClampNeg) then 0 else 1) → gSt (MWd g) (MA g) s σ H locs → lv_has ls 8 [(0, .ref (mad g 62)), (1, .int x10), (2, .int x11), (3, .int x12), (4, .int x13), (5, .int x14)] → W p l e rM_search s m args below meth c H locs 0 0 (MQ below (va_Qi post (gB (MWd g)) (MA g)) args s 0 0 (MA g)) (F0 m 105 ls [.int v38])) (fun v38 H locs ls ev38 hS hl => ?_) (fun J40 => ?_)
      · have h := h v38 ev38
        refine lv_istore (lv' := [(6, .int v38), (0, .ref (mad g 62)), (1, .int x10), (2, .int x11), (3, .int x12), (4, .int x13), (5, .int x14)]) hx hb dX3_search_105 hl (by decide) rfl (fun ls hl => ?_)
        refine lv_aload_n hx hb dX3_search_107 rfl (lv_at hl 1 rfl) ?_
        refine m_geta F hO hS 21 (by decide) rfl q1418 dX3_search_108 ?_
        refine lv_iload hx hb dX3_search_111 (lv_at hl 6 rfl) ?_
        obtain ⟨b41, h⟩ := h
        refine m_iald F hS 21 17 rfl rfl b41 dX3_search_113 ?_
        refine lv_iload_n hx hb dX3_search_114 rfl (lv_at hl 4 rfl) ?_
        obtain ⟨b46, h⟩ := h
        refine gcut (P := ∀ (v45 : Int32) (H : Heap) (locs : List Loc) (ls : Array Slot), v45 = (if (σ 21 x14.toNatClampNeg) = x12 then if (((σ 29 x10.toNatClampNeg) >>> (x14 &&& 31)) &&& 1) = 1 then if v38 = 0 then 0 else 1 else 0 else 0) → gSt (MWd g) (MA g) s σ H locs → lv_has ls 8 [(0, .ref (mad g 62)), (1, .int x10), (2, .int x11), (3, .int x12), (4, .int x13), (5, .int x14)] → W p l e rM_search s m args below meth c H locs 0 0 (MQ below (va_Qi post (gB (MWd g)) (MA g)) args s 0 0 (MA g)) (F0 m 143 ls [.int v45])) (fun v45 H locs ls ev45 hS hl => ?_) (fun J47 => ?_)
        · have h := h v45 ev45
          refine lv_istore (lv' := [(7, .int v45), (0, .ref (mad g 62)), (1, .int x10), (2, .int x11), (3, .int x12), (4, .int x13), (5, .int x14)]) hx hb dX3_search_143 hl (by decide) rfl (fun ls hl => ?_)
          refine lv_iload hx hb dX3_search_145 (lv_at hl 5 rfl) ?_
          refine lv_iload hx hb dX3_search_147 (lv_at hl 0 rfl) ?_
          refine lv_if_eq (tgt := 177) hx hb dX3_search_149 (by decide) (fun c48 => ?_) (fun c48 => ?_)
          · have h := h.1 c48
            refine lv_iconst (v := 0) hx hb dX3_search_177 (by decide) ?_
            refine lv_ior hx hb dX3_search_178 ?_
            refine lv_topi (fun x49 ex49 => ?_)
            have h := h x49 ex49
            refine lv_istore (lv' := [(4, .int x49), (7, .int v45), (0, .ref (mad g 62)), (1, .int x10), (2, .int x11), (3, .int x12), (5, .int x14)]) hx hb dX3_search_179 hl (by decide) rfl (fun ls hl => ?_)
            obtain ⟨x50, ex50⟩ : ∃ y : Int32, y = x14 + 1 := ⟨_, rfl⟩
            have h := h x50 ex50
            refine lv_iinc (v := x50) (lv' := [(5, .int x50), (4, .int x49), (7, .int v45), (0, .ref (mad g 62)), (1, .int x10), (2, .int x11), (3, .int x12)]) hx hb dX3_search_181 hl (k := 6) rfl (by rw [ex50]; rfl) (by decide) rfl (fun ls hl => ?_)
            refine lv_goto (tgt := 47) hx hb dX3_search_184 (by decide) ?_
            exact ih σ x10 x11 x12 x49 x50 H locs ls hS (lv_sub hl [3, 4, 5, 6, 1, 0] rfl) h
          · have h := h.2 c48
            refine lv_aload_n hx hb dX3_search_152 rfl (lv_at hl 1 rfl) ?_
            refine lv_iconst (v := 0) hx hb dX3_search_153 (by decide) ?_
            refine lv_iload hx hb dX3_search_154 (lv_at hl 6 rfl) ?_
            refine lv_iload_n hx hb dX3_search_156 rfl (lv_at hl 4 rfl) ?_
            refine lv_aload_n hx hb dX3_search_157 rfl (lv_at hl 1 rfl) ?_
            refine m_geti F hO hS 0 (by decide) rfl q1397 dX3_search_158 ?_
            refine lv_bipush (v := 24) hx hb dX3_search_161 (by decide) ?_
            refine lv_idiv hx hb dX3_search_163 (by decide) ?_
            refine gw_callVi (As := [.int 0, .int x14, .int x12, .int ((σ 0 0) / 24)]) (rest := [.int x13]) F hS (tM_whyOf l g hO σ 0 x14 x12 ((σ 0 0) / 24) _ h) (cwV 4 hts (lw_V q1799 q1801 qs61 q90 q1802) rfl rfl rfl (by decide +kernel) ⟨Nat.le_of_ble_eq_true rfl, Nat.le_of_ble_eq_true rfl⟩) (m_rec F hO hS) rfl hl.1 rfl (Nat.le_of_ble_eq_true rfl) dX3_search_164 ⟨Nat.le_refl 0, Nat.le_refl 0⟩ (fun r52 s51 H locs h hS => ?_)
            refine gcut (P := ∀ (v54 : Int32) (H : Heap) (locs : List Loc) (ls : Array Slot), v54 = (if r52 < 0 then 0 else (1 : Int32) <<< (x14 &&& 31)) → gSt (MWd g) (MA g) s s51 H locs → lv_has ls 8 [(0, .ref (mad g 62)), (1, .int x10), (2, .int x11), (3, .int x12), (5, .int x14)] → W p l e rM_search s m args below meth c H locs 0 0 (MQ below (va_Qi post (gB (MWd g)) (MA g)) args s 0 0 (MA g)) (F0 m 178 ls [.int v54, .int x13])) (fun v54 H locs ls ev54 hS hl => ?_) (fun J55 => ?_)
            · have h := h v54 ev54
              refine lv_ior hx hb dX3_search_178 ?_
              refine lv_topi (fun x56 ex56 => ?_)
              have h := h x56 ex56
              refine lv_istore (lv' := [(4, .int x56), (0, .ref (mad g 62)), (1, .int x10), (2, .int x11), (3, .int x12), (5, .int x14)]) hx hb dX3_search_179 hl (by decide) rfl (fun ls hl => ?_)
              obtain ⟨x57, ex57⟩ : ∃ y : Int32, y = x14 + 1 := ⟨_, rfl⟩
              have h := h x57 ex57
              refine lv_iinc (v := x57) (lv' := [(5, .int x57), (4, .int x56), (0, .ref (mad g 62)), (1, .int x10), (2, .int x11), (3, .int x12)]) hx hb dX3_search_181 hl (k := 5) rfl (by rw [ex57]; rfl) (by decide) rfl (fun ls hl => ?_)
              refine lv_goto (tgt := 47) hx hb dX3_search_184 (by decide) ?_
              exact ih s51 x10 x11 x12 x56 x57 H locs ls hS (lv_sub hl [2, 3, 4, 5, 1, 0] rfl) h
            · refine lv_if_lt (tgt := 177) hx hb dX3_search_167 (by decide) (fun c53 => ?_) (fun c53 => ?_)
              · refine lv_iconst (v := 0) hx hb dX3_search_177 (by decide) ?_
                exact J55 _ H locs ls (by first | with_reducible rfl | ((try rw [if_pos c53]); done)) hS (lv_sub hl [1, 2, 3, 4, 6] rfl)
              · refine lv_iconst (v := 1) hx hb dX3_search_170 (by decide) ?_
                refine lv_iload hx hb dX3_search_171 (lv_at hl 6 rfl) ?_
                refine lv_ishl hx hb dX3_search_173 ?_
                refine lv_goto (tgt := 178) hx hb dX3_search_174 (by decide) ?_
                exact J55 _ H locs ls (by first | with_reducible rfl | ((try rw [if_neg c53]); done)) hS (lv_sub hl [1, 2, 3, 4, 6] rfl)
        · refine lv_icmp_ne (tgt := 142) hx hb dX3_search_115 (by decide) (fun c42 => ?_) (fun c42 => ?_)
          · refine lv_iconst (v := 0) hx hb dX3_search_142 (by decide) ?_
            exact J47 _ H locs ls (by first | with_reducible rfl | ((try rw [if_neg c42]); done)) hS (lv_sub hl [1, 2, 3, 4, 5, 6] rfl)
          · refine lv_aload_n hx hb dX3_search_118 rfl (lv_at hl 1 rfl) ?_
            refine m_geta F hO hS 29 (by decide) rfl q1426 dX3_search_119 ?_
            refine lv_iload_n hx hb dX3_search_122 rfl (lv_at hl 2 rfl) ?_
            refine m_iald F hS 29 24 rfl rfl ((b46 c42)) dX3_search_123 ?_
            refine lv_iload hx hb dX3_search_124 (lv_at hl 6 rfl) ?_
            refine lv_ishr hx hb dX3_search_126 ?_
            refine lv_iconst (v := 1) hx hb dX3_search_127 (by decide) ?_
            refine lv_iand hx hb dX3_search_128 ?_
            refine lv_iconst (v := 1) hx hb dX3_search_129 (by decide) ?_
            refine lv_icmp_ne (tgt := 142) hx hb dX3_search_130 (by decide) (fun c43 => ?_) (fun c43 => ?_)
            · refine lv_iconst (v := 0) hx hb dX3_search_142 (by decide) ?_
              exact J47 _ H locs ls (by first | with_reducible rfl | ((try rw [if_pos c42]); (try rw [if_neg c43]); done)) hS (lv_sub hl [1, 2, 3, 4, 5, 6] rfl)
            · refine lv_iload hx hb dX3_search_133 (lv_at hl 0 rfl) ?_
              refine lv_if_eq (tgt := 142) hx hb dX3_search_135 (by decide) (fun c44 => ?_) (fun c44 => ?_)
              · refine lv_iconst (v := 0) hx hb dX3_search_142 (by decide) ?_
                exact J47 _ H locs ls (by first | with_reducible rfl | ((try rw [if_pos c42]); (try rw [if_pos c43]); (try rw [if_pos c44]); done)) hS (lv_sub hl [1, 2, 3, 4, 5, 6] rfl)
              · refine lv_iconst (v := 1) hx hb dX3_search_138 (by decide) ?_
                refine lv_goto (tgt := 143) hx hb dX3_search_139 (by decide) ?_
                exact J47 _ H locs ls (by first | with_reducible rfl | ((try rw [if_pos c42]); (try rw [if_pos c43]); (try rw [if_neg c44]); done)) hS (lv_sub hl [1, 2, 3, 4, 5, 6] rfl)
      · refine lv_if_eq (tgt := 100) hx hb dX3_search_62 (by decide) (fun c34 => ?_) (fun c34 => ?_)
        · refine lv_iconst (v := 1) hx hb dX3_search_100 (by decide) ?_
          refine lv_goto (tgt := 105) hx hb dX3_search_101 (by decide) ?_
          exact J40 _ H locs ls (by first | with_reducible rfl | ((try rw [if_pos c34]); done)) hS (lv_sub hl [0, 1, 2, 3, 4, 5] rfl)
        · refine lv_aload_n hx hb dX3_search_65 rfl (lv_at hl 0 rfl) ?_
          refine m_geta F hO hS 23 (by decide) rfl q1420 dX3_search_66 ?_
          refine lv_iload hx hb dX3_search_69 (lv_at hl 5 rfl) ?_
          refine m_zald F hS 23 19 rfl rfl ((b39 c34).1) dX3_search_71 ?_
          refine lv_if_eq (tgt := 88) hx hb dX3_search_72 (by decide) (fun c35 => ?_) (fun c35 => ?_)
          · refine lv_iload_n hx hb dX3_search_88 rfl (lv_at hl 2 rfl) ?_
            refine lv_aload_n hx hb dX3_search_89 rfl (lv_at hl 0 rfl) ?_
            refine m_geta F hO hS 7 (by decide) rfl q1404 dX3_search_90 ?_
            refine lv_iload_n hx hb dX3_search_93 rfl (lv_at hl 3 rfl) ?_
            refine m_iald F hS 7 5 rfl rfl (((b39 c34).2.1 c35)) dX3_search_94 ?_
            refine lv_iadd hx hb dX3_search_95 ?_
            refine lv_iconst (v := 2) hx hb dX3_search_96 (by decide) ?_
            refine lv_icmp_lt (tgt := 104) hx hb dX3_search_97 (by decide) (fun c36 => ?_) (fun c36 => ?_)
            · refine lv_iconst (v := 0) hx hb dX3_search_104 (by decide) ?_
              exact J40 _ H locs ls (by first | with_reducible rfl | ((try rw [if_neg c34]); (try rw [if_pos c35]); (try rw [if_pos c36]); done)) hS (lv_sub hl [0, 1, 2, 3, 4, 5] rfl)
            · refine lv_iconst (v := 1) hx hb dX3_search_100 (by decide) ?_
              refine lv_goto (tgt := 105) hx hb dX3_search_101 (by decide) ?_
              exact J40 _ H locs ls (by first | with_reducible rfl | ((try rw [if_neg c34]); (try rw [if_pos c35]); (try rw [if_neg c36]); done)) hS (lv_sub hl [0, 1, 2, 3, 4, 5] rfl)
          · refine lv_iload_n hx hb dX3_search_75 rfl (lv_at hl 2 rfl) ?_
            refine lv_aload_n hx hb dX3_search_76 rfl (lv_at hl 0 rfl) ?_
            refine m_geta F hO hS 6 (by decide) rfl q1403 dX3_search_77 ?_
            refine lv_iload_n hx hb dX3_search_80 rfl (lv_at hl 3 rfl) ?_
            refine m_iald F hS 6 4 rfl rfl (((b39 c34).2.2 c35)) dX3_search_81 ?_
            refine lv_icmp_lt (tgt := 104) hx hb dX3_search_82 (by decide) (fun c37 => ?_) (fun c37 => ?_)
            · refine lv_iconst (v := 0) hx hb dX3_search_104 (by decide) ?_
              exact J40 _ H locs ls (by first | with_reducible rfl | ((try rw [if_neg c34]); (try rw [if_neg c35]); (try rw [if_pos c37]); done)) hS (lv_sub hl [0, 1, 2, 3, 4, 5] rfl)
            · refine lv_goto (tgt := 100) hx hb dX3_search_85 (by decide) ?_
              refine lv_iconst (v := 1) hx hb dX3_search_100 (by decide) ?_
              refine lv_goto (tgt := 105) hx hb dX3_search_101 (by decide) ?_
              exact J40 _ H locs ls (by first | with_reducible rfl | ((try rw [if_neg c34]); (try rw [if_neg c35]); (try rw [if_neg c37]); done)) hS (lv_sub hl [0, 1, 2, 3, 4, 5] rfl)
set_option maxHeartbeats 4000000 in
set_option maxRecDepth 100000 in
theorem kM_search {p : Program} {l : Launch} {e : Env} {s : State} {m : MethodId} {args : Array Value} {below : List Frame} {meth : Method} {c : Code} {g : MG} {post : Int32 → MS → Prop} (F : gFx p s m c meth args cX3_search 8 RX3 (some .int) (mD g) (mcl g) (mty g)) (hO : MOK g) (σ : MS) (a1 : Int32) (a2 : Int32) (H : Heap) (locs : List Loc) (ls : Array Slot) (hS : gSt (MWd g) (MA g) s σ H locs) (hl : lv_has ls 8 [(0, .ref (mad g 62)), (1, .int a1), (2, .int a2)]) (h : wM_search post σ a1 a2) : W p l e rM_search s m args below meth c H locs 0 0 (MQ below (va_Qi post (gB (MWd g)) (MA g)) args s 0 0 (MA g)) (F0 m 0 ls []) := by
  have hx := F.hx
  have hb := F.hb
  have hts := F.1.2.2.2.2
  have hown := F.1.2.2.2.1
  rw [wM_search] at h
  refine lv_aload_n hx hb dX3_search_0 rfl (lv_at hl 0 rfl) ?_
  refine lv_iload_n hx hb dX3_search_1 rfl (lv_at hl 1 rfl) ?_
  refine gw_callVi (As := [.int a1]) (rest := []) F hS (tM_isHunter l g hO σ a1 _ h) (cwV 1 hts (lw_V q1783 q1785 qs59 q90 q1786) rfl rfl rfl (by decide +kernel) ⟨Nat.le_of_ble_eq_true rfl, Nat.le_of_ble_eq_true rfl⟩) (m_rec F hO hS) rfl hl.1 rfl (Nat.le_of_ble_eq_true rfl) dX3_search_2 ⟨Nat.le_refl 0, Nat.le_refl 0⟩ (fun r2 s1 H locs h hS => ?_)
  obtain ⟨zr2, h⟩ := h
  refine lv_if_eq (tgt := 20) hx hb dX3_search_5 (by decide) (fun c3 => ?_) (fun c3 => ?_)
  · have h := h.1 c3
    refine lv_iconst (v := (-1)) hx hb dX3_search_20 (by decide) ?_
    exact gw_iret F hS h dX3_search_21
  · have h := h.2 c3
    refine lv_iload_n hx hb dX3_search_8 rfl (lv_at hl 2 rfl) ?_
    refine lv_i2l hx hb dX3_search_9 rfl ?_
    refine lv_lconst (v := 0) hx hb dX3_search_10 (by decide) ?_
    refine lv_ldc2 (v := 24) hx hb hown (hts _ q1605) dX3_search_11 ?_
    refine gw_callSi (As := [.long a2.toInt64, .long 0, .long 24]) (rest := []) F hS (tM_in l g hO s1 a2.toInt64 0 24 _ h) (va_cwS 3 hts (lw_S q1593 q1594 q90 q1595) rfl rfl rfl (by decide +kernel) ⟨Nat.le_of_ble_eq_true rfl, Nat.le_of_ble_eq_true rfl⟩) rfl hl.1 rfl (Nat.le_of_ble_eq_true rfl) dX3_search_14 ⟨Nat.le_refl 0, Nat.le_refl 0⟩ (fun r5 s4 H locs h hS => ?_)
    obtain ⟨zr5, h⟩ := h
    refine lv_if_ne (tgt := 22) hx hb dX3_search_17 (by decide) (fun c6 => ?_) (fun c6 => ?_)
    · have h := h.1 c6
      refine lv_aload_n hx hb dX3_search_22 rfl (lv_at hl 0 rfl) ?_
      refine m_geti F hO hS 30 (by decide) rfl q1427 dX3_search_23 ?_
      refine lv_bipush (v := 40) hx hb dX3_search_26 (by decide) ?_
      refine lv_icmp_ne (tgt := 34) hx hb dX3_search_28 (by decide) (fun c7 => ?_) (fun c7 => ?_)
      · have h := h.1 c7
        refine lv_aload_n hx hb dX3_search_34 rfl (lv_at hl 0 rfl) ?_
        refine m_geta F hO hS 28 (by decide) rfl q1425 dX3_search_35 ?_
        refine lv_iload_n hx hb dX3_search_38 rfl (lv_at hl 1 rfl) ?_
        obtain ⟨b8, h⟩ := h
        refine m_iald F hS 28 23 rfl rfl b8 dX3_search_39 ?_
        refine lv_topi (fun x9 ex9 => ?_)
        have h := h x9 ex9
        refine lv_istore_n (lv' := [(3, .int x9), (0, .ref (mad g 62)), (1, .int a1), (2, .int a2)]) hx hb dX3_search_40 rfl hl (by decide) rfl (fun ls hl => ?_)
        refine lv_iconst (v := 0) hx hb dX3_search_41 (by decide) ?_
        refine lv_istore (lv' := [(4, .int 0), (3, .int x9), (0, .ref (mad g 62)), (1, .int a1), (2, .int a2)]) hx hb dX3_search_42 hl (by decide) rfl (fun ls hl => ?_)
        refine lv_iconst (v := 0) hx hb dX3_search_44 (by decide) ?_
        refine lv_istore (lv' := [(5, .int 0), (4, .int 0), (3, .int x9), (0, .ref (mad g 62)), (1, .int a1), (2, .int a2)]) hx hb dX3_search_45 hl (by decide) rfl (fun ls hl => ?_)
        obtain ⟨n58, h⟩ := h
        exact (kM_search_L47 F hO n58) s4 a1 a2 x9 0 0 H locs ls hS (lv_sub hl [3, 4, 5, 2, 1, 0] rfl) h
      · have h := h.2 c7
        refine lv_bipush (v := (-3)) hx hb dX3_search_31 (by decide) ?_
        exact gw_iret F hS h dX3_search_33
    · have h := h.2 c6
      refine lv_iconst (v := (-1)) hx hb dX3_search_20 (by decide) ?_
      exact gw_iret F hS h dX3_search_21
set_option maxHeartbeats 4000000 in
set_option maxRecDepth 100000 in
theorem tM_search (l : Launch) (g : MG) (hO : MOK g) (σ : MS) (a1 : Int32) (a2 : Int32) (post : Int32 → MS → Prop) (h : wM_search post σ a1 a2) : Met l yX3_search (ws_ yX3_search cX3_search 8 (some .int)) rM_search (va_Pc [.ref (mad g 62), .int a1, .int a2] (gPre (MWd g) (mD g) (mcl g) (mty g) σ)) (va_Qi post (gB (MWd g)) (MA g)) 0 0 (MA g) := by
  refine Met.ofW (cc := cX3_search) (maxL := 8) (ret := (some .int)) (by decide) rfl ?_
  intro p e s m args below meth c s₁ B hml hv
  obtain ⟨rfl, hW, hK⟩ := hv
  have hts := atoms_spec (ws := (ws_ yX3_search cX3_search 8 (some .int))) B.pre
  have hts : ∀ w ∈ lw_all, w.before _ s = true := fun w h => hts w (List.mem_cons_of_mem _ h)
  have hl := lv_entry ([.ref (mad g 62), .int a1, .int a2]) (n := 8) (Nat.le_of_ble_eq_true rfl)
  rw [lg_entry_eq]
  generalize (lg_sl ([.ref (mad g 62), .int a1, .int a2]) ++ List.replicate (8 - (lg_sl ([.ref (mad g 62), .int a1, .int a2])).length) Slot.unset).toArray = ls at hl ⊢
  exact kM_search ⟨⟨B.exec, B.bytes, hml, findClass_of_methodNamed B.named, hts⟩, hK, B.returns, B.notSynchronized⟩ hO σ a1 a2 s.heap [] ls ⟨hW, va_S.rf⟩ hl h
def wM_follow_J64 (post : Int32 → MS → Prop) (K14 : MS → Int32 → Int32 → Int32 → Prop) (σ : MS) (x18 : Int32) (x19 : Int32) (x20 : Int32) (x21 : Int32) : Prop := (((¬ (x21 = 0) → (¬ (x19 < 0) → vp_in x20 16 ∧ vp_in x19 16))) ∧ ∀ v25 : Int32, v25 = (if x21 = 0 then x19 else if x19 < 0 then x20 else if (σ 26 x20.toNatClampNeg) ≤ (σ 26 x19.toNatClampNeg) then x19 else x20) → (∀ x28 : Int32, x28 = x20 + 1 → K14 σ x18 v25 x28))
def wM_follow_J63 (post : Int32 → MS → Prop) (K14 : MS → Int32 → Int32 → Int32 → Prop) (σ : MS) (x15 : Int32) (x16 : Int32) (x17 : Int32) : Prop := wM_follow_J64 post K14 σ x15 x16 x17 0
def wM_follow_L14 (post : Int32 → MS → Prop) : Nat → MS → Int32 → Int32 → Int32 → Prop
  | 0, _, _, _, _ => False
  | n + 1, σ, x4, x5, x6 => ((σ 18 0) ≤ x6 → (0 ≤ x5 → (vp_in x5 16 ∧ vp_in x4 6 ∧ ∀ s10 : MS, s10 = up2 σ 28 x4.toNatClampNeg (σ 25 x5.toNatClampNeg) → vp_in x4 6 ∧ post (s10 28 x4.toNatClampNeg) s10)) ∧ (¬ (0 ≤ x5) → post (-4) σ)) ∧ (¬ ((σ 18 0) ≤ x6) → (vp_in x4 6 ∧ (¬ ((((σ 29 x4.toNatClampNeg) >>> (x6 &&& 31)) &&& 1) = 1) → wM_follow_J63 post (wM_follow_L14 post n) σ x4 x5 x6) ∧ ((((σ 29 x4.toNatClampNeg) >>> (x6 &&& 31)) &&& 1) = 1 → wM_hasScent (fun r30 s29 => (((¬ (r30 = 0) → vp_in x6 16 ∧ vp_in x4 6)) ∧ ∀ v33 : Int32, v33 = (if r30 = 0 then 0 else if (s29 24 x6.toNatClampNeg) = (s29 28 x4.toNatClampNeg) then 1 else 0) → (((¬ (v33 = 0) → (¬ (x5 < 0) → vp_in x6 16 ∧ vp_in x5 16))) ∧ ∀ v39 : Int32, v39 = (if v33 = 0 then x5 else if x5 < 0 then x6 else if (s29 26 x6.toNatClampNeg) ≤ (s29 26 x5.toNatClampNeg) then x5 else x6) → (∀ x42 : Int32, x42 = x6 + 1 → wM_follow_L14 post n s29 x4 v39 x42)))) σ x6)))
def wM_follow (post : Int32 → MS → Prop) (σ : MS) (a1 : Int32) : Prop := wM_isHunter (fun r2 s1 => (¬ (r2 = 0) → ∃ n43, wM_follow_L14 post n43 s1 a1 (-1) 0) ∧ (r2 = 0 → post (-1) s1)) σ a1
abbrev rM_follow : Room := { frames := 2, cells := 0, slots := 0, locals := 46 }
set_option maxHeartbeats 4000000 in
set_option maxRecDepth 100000 in
theorem kM_follow_J64 {p : Program} {l : Launch} {e : Env} {s : State} {m : MethodId} {args : Array Value} {below : List Frame} {meth : Method} {c : Code} {g : MG} {post : Int32 → MS → Prop} {K14 : MS → Int32 → Int32 → Int32 → Prop} (F : gFx p s m c meth args cX3_follow 5 RX3 (some .int) (mD g) (mcl g) (mty g)) (hO : MOK g) (hK14 : ∀ (σ : MS) (z0 : Int32) (z1 : Int32) (z2 : Int32) (H : Heap) (locs : List Loc) (ls : Array Slot), gSt (MWd g) (MA g) s σ H locs → lv_has ls 5 [(0, .ref (mad g 62)), (1, .int z0), (2, .int z1), (3, .int z2)] → K14 σ z0 z1 z2 → W p l e rM_follow s m args below meth c H locs 0 0 (MQ below (va_Qi post (gB (MWd g)) (MA g)) args s 0 0 (MA g)) (F0 m 14 ls [])) : ∀ (σ : MS) (x18 : Int32) (x19 : Int32) (x20 : Int32) (x21 : Int32) (H : Heap) (locs : List Loc) (ls : Array Slot), gSt (MWd g) (MA g) s σ H locs → lv_has ls 5 [(0, .ref (mad g 62)), (1, .int x18), (2, .int x19), (3, .int x20)] → wM_follow_J64 post K14 σ x18 x19 x20 x21 → W p l e rM_follow s m args below meth c H locs 0 0 (MQ below (va_Qi post (gB (MWd g)) (MA g)) args s 0 0 (MA g)) (F0 m 64 ls [.int x21]) := by
  have hx := F.hx
  have hb := F.hb
  have hts := F.1.2.2.2.2
  have hown := F.1.2.2.2.1
  intro σ x18 x19 x20 x21 H locs ls hS hl h
  rw [wM_follow_J64] at h
  refine lv_istore (lv' := [(4, .int x21), (0, .ref (mad g 62)), (1, .int x18), (2, .int x19), (3, .int x20)]) hx hb dX3_follow_64 hl (by decide) rfl (fun ls hl => ?_)
  refine lv_iload hx hb dX3_follow_66 (lv_at hl 0 rfl) ?_
  obtain ⟨b26, h⟩ := h
  refine gcut (P := ∀ (v25 : Int32) (H : Heap) (locs : List Loc) (ls : Array Slot), v25 = (if x21 = 0 then x19 else if x19 < 0 then x20 else if (σ 26 x20.toNatClampNeg) ≤ (σ 26 x19.toNatClampNeg) then x19 else x20) → gSt (MWd g) (MA g) s σ H locs → lv_has ls 5 [(0, .ref (mad g 62)), (1, .int x18), (3, .int x20)] → W p l e rM_follow s m args below meth c H locs 0 0 (MQ below (va_Qi post (gB (MWd g)) (MA g)) args s 0 0 (MA g)) (F0 m 95 ls [.int v25])) (fun v25 H locs ls ev25 hS hl => ?_) (fun J27 => ?_)
  · have h := h v25 ev25
    refine lv_istore_n (lv' := [(2, .int v25), (0, .ref (mad g 62)), (1, .int x18), (3, .int x20)]) hx hb dX3_follow_95 rfl hl (by decide) rfl (fun ls hl => ?_)
    obtain ⟨x28, ex28⟩ : ∃ y : Int32, y = x20 + 1 := ⟨_, rfl⟩
    have h := h x28 ex28
    refine lv_iinc (v := x28) (lv' := [(3, .int x28), (2, .int v25), (0, .ref (mad g 62)), (1, .int x18)]) hx hb dX3_follow_96 hl (k := 3) rfl (by rw [ex28]; rfl) (by decide) rfl (fun ls hl => ?_)
    refine lv_goto (tgt := 14) hx hb dX3_follow_99 (by decide) ?_
    exact hK14 σ x18 v25 x28 H locs ls hS (lv_sub hl [2, 3, 1, 0] rfl) h
  · refine lv_if_eq (tgt := 94) hx hb dX3_follow_68 (by decide) (fun c22 => ?_) (fun c22 => ?_)
    · refine lv_iload_n hx hb dX3_follow_94 rfl (lv_at hl 3 rfl) ?_
      exact J27 _ H locs ls (by first | with_reducible rfl | ((try rw [if_pos c22]); done)) hS (lv_sub hl [1, 2, 4] rfl)
    · refine lv_iload_n hx hb dX3_follow_71 rfl (lv_at hl 3 rfl) ?_
      refine lv_if_lt (tgt := 90) hx hb dX3_follow_72 (by decide) (fun c23 => ?_) (fun c23 => ?_)
      · refine lv_iload_n hx hb dX3_follow_90 rfl (lv_at hl 4 rfl) ?_
        refine lv_goto (tgt := 95) hx hb dX3_follow_91 (by decide) ?_
        exact J27 _ H locs ls (by first | with_reducible rfl | ((try rw [if_neg c22]); (try rw [if_pos c23]); done)) hS (lv_sub hl [1, 2, 4] rfl)
      · refine lv_aload_n hx hb dX3_follow_75 rfl (lv_at hl 1 rfl) ?_
        refine m_geta F hO hS 26 (by decide) rfl q1423 dX3_follow_76 ?_
        refine lv_iload_n hx hb dX3_follow_79 rfl (lv_at hl 4 rfl) ?_
        refine m_iald F hS 26 22 rfl rfl (((b26 c22) c23).1) dX3_follow_80 ?_
        refine lv_aload_n hx hb dX3_follow_81 rfl (lv_at hl 1 rfl) ?_
        refine m_geta F hO hS 26 (by decide) rfl q1423 dX3_follow_82 ?_
        refine lv_iload_n hx hb dX3_follow_85 rfl (lv_at hl 3 rfl) ?_
        refine m_iald F hS 26 22 rfl rfl (((b26 c22) c23).2) dX3_follow_86 ?_
        refine lv_icmp_le (tgt := 94) hx hb dX3_follow_87 (by decide) (fun c24 => ?_) (fun c24 => ?_)
        · refine lv_iload_n hx hb dX3_follow_94 rfl (lv_at hl 3 rfl) ?_
          exact J27 _ H locs ls (by first | with_reducible rfl | ((try rw [if_neg c22]); (try rw [if_neg c23]); (try rw [if_pos c24]); done)) hS (lv_sub hl [1, 2, 4] rfl)
        · refine lv_iload_n hx hb dX3_follow_90 rfl (lv_at hl 4 rfl) ?_
          refine lv_goto (tgt := 95) hx hb dX3_follow_91 (by decide) ?_
          exact J27 _ H locs ls (by first | with_reducible rfl | ((try rw [if_neg c22]); (try rw [if_neg c23]); (try rw [if_neg c24]); done)) hS (lv_sub hl [1, 2, 4] rfl)
set_option maxHeartbeats 4000000 in
set_option maxRecDepth 100000 in
theorem kM_follow_J63 {p : Program} {l : Launch} {e : Env} {s : State} {m : MethodId} {args : Array Value} {below : List Frame} {meth : Method} {c : Code} {g : MG} {post : Int32 → MS → Prop} {K14 : MS → Int32 → Int32 → Int32 → Prop} (F : gFx p s m c meth args cX3_follow 5 RX3 (some .int) (mD g) (mcl g) (mty g)) (hO : MOK g) (hK14 : ∀ (σ : MS) (z0 : Int32) (z1 : Int32) (z2 : Int32) (H : Heap) (locs : List Loc) (ls : Array Slot), gSt (MWd g) (MA g) s σ H locs → lv_has ls 5 [(0, .ref (mad g 62)), (1, .int z0), (2, .int z1), (3, .int z2)] → K14 σ z0 z1 z2 → W p l e rM_follow s m args below meth c H locs 0 0 (MQ below (va_Qi post (gB (MWd g)) (MA g)) args s 0 0 (MA g)) (F0 m 14 ls [])) : ∀ (σ : MS) (x15 : Int32) (x16 : Int32) (x17 : Int32) (H : Heap) (locs : List Loc) (ls : Array Slot), gSt (MWd g) (MA g) s σ H locs → lv_has ls 5 [(0, .ref (mad g 62)), (1, .int x15), (2, .int x16), (3, .int x17)] → wM_follow_J63 post K14 σ x15 x16 x17 → W p l e rM_follow s m args below meth c H locs 0 0 (MQ below (va_Qi post (gB (MWd g)) (MA g)) args s 0 0 (MA g)) (F0 m 63 ls []) := by
  have hx := F.hx
  have hb := F.hb
  have hts := F.1.2.2.2.2
  have hown := F.1.2.2.2.1
  intro σ x15 x16 x17 H locs ls hS hl h
  rw [wM_follow_J63] at h
  refine lv_iconst (v := 0) hx hb dX3_follow_63 (by decide) ?_
  exact (kM_follow_J64 F hO hK14) σ x15 x16 x17 0 H locs ls hS (lv_sub hl [0, 1, 2, 3] rfl) h
set_option maxHeartbeats 4000000 in
set_option maxRecDepth 100000 in
theorem kM_follow_L14 {p : Program} {l : Launch} {e : Env} {s : State} {m : MethodId} {args : Array Value} {below : List Frame} {meth : Method} {c : Code} {g : MG} {post : Int32 → MS → Prop} (F : gFx p s m c meth args cX3_follow 5 RX3 (some .int) (mD g) (mcl g) (mty g)) (hO : MOK g) : ∀ (n : Nat) (σ : MS) (x4 : Int32) (x5 : Int32) (x6 : Int32) (H : Heap) (locs : List Loc) (ls : Array Slot), gSt (MWd g) (MA g) s σ H locs → lv_has ls 5 [(0, .ref (mad g 62)), (1, .int x4), (2, .int x5), (3, .int x6)] → wM_follow_L14 post n σ x4 x5 x6 → W p l e rM_follow s m args below meth c H locs 0 0 (MQ below (va_Qi post (gB (MWd g)) (MA g)) args s 0 0 (MA g)) (F0 m 14 ls []) := by
  have hx := F.hx
  have hb := F.hb
  have hts := F.1.2.2.2.2
  have hown := F.1.2.2.2.1
  intro n
  induction n with
  | zero =>
    intro σ x4 x5 x6 H locs ls hS hl h
    exact False.elim h
  | succ n ih =>
    intro σ x4 x5 x6 H locs ls hS hl h
    rw [wM_follow_L14] at h
    refine lv_iload_n hx hb dX3_follow_14 rfl (lv_at hl 3 rfl) ?_
    refine lv_aload_n hx hb dX3_follow_15 rfl (lv_at hl 0 rfl) ?_
    refine m_geti F hO hS 18 (by decide) rfl q1415 dX3_follow_16 ?_
    refine lv_icmp_ge (tgt := 102) hx hb dX3_follow_19 (by decide) (fun c7 => ?_) (fun c7 => ?_)
    · have h := h.1 c7
      refine lv_iload_n hx hb dX3_follow_102 rfl (lv_at hl 2 rfl) ?_
      refine lv_if_ge (tgt := 109) hx hb dX3_follow_103 (by decide) (fun c8 => ?_) (fun c8 => ?_)
      · have h := h.1 c8
        refine lv_aload_n hx hb dX3_follow_109 rfl (lv_at hl 0 rfl) ?_
        refine m_geta F hO hS 28 (by decide) rfl q1425 dX3_follow_110 ?_
        refine lv_iload_n hx hb dX3_follow_113 rfl (lv_at hl 1 rfl) ?_
        refine lv_aload_n hx hb dX3_follow_114 rfl (lv_at hl 0 rfl) ?_
        refine m_geta F hO hS 25 (by decide) rfl q1422 dX3_follow_115 ?_
        refine lv_iload_n hx hb dX3_follow_118 rfl (lv_at hl 2 rfl) ?_
        obtain ⟨b9, h⟩ := h
        refine m_iald F hS 25 21 rfl rfl b9 dX3_follow_119 ?_
        obtain ⟨b11, h⟩ := h
        refine m_iast F hO hS 28 23 rfl rfl b11 dX3_follow_120 (fun s10 es10 H locs hS => ?_)
        have h := h s10 es10
        refine lv_aload_n hx hb dX3_follow_121 rfl (lv_at hl 0 rfl) ?_
        refine m_geta F hO hS 28 (by decide) rfl q1425 dX3_follow_122 ?_
        refine lv_iload_n hx hb dX3_follow_125 rfl (lv_at hl 1 rfl) ?_
        obtain ⟨b12, h⟩ := h
        refine m_iald F hS 28 23 rfl rfl b12 dX3_follow_126 ?_
        exact gw_iret F hS h dX3_follow_127
      · have h := h.2 c8
        refine lv_bipush (v := (-4)) hx hb dX3_follow_106 (by decide) ?_
        exact gw_iret F hS h dX3_follow_108
    · have h := h.2 c7
      refine lv_aload_n hx hb dX3_follow_22 rfl (lv_at hl 0 rfl) ?_
      refine m_geta F hO hS 29 (by decide) rfl q1426 dX3_follow_23 ?_
      refine lv_iload_n hx hb dX3_follow_26 rfl (lv_at hl 1 rfl) ?_
      obtain ⟨b13, h⟩ := h
      refine m_iald F hS 29 24 rfl rfl b13 dX3_follow_27 ?_
      refine lv_iload_n hx hb dX3_follow_28 rfl (lv_at hl 3 rfl) ?_
      refine lv_ishr hx hb dX3_follow_29 ?_
      refine lv_iconst (v := 1) hx hb dX3_follow_30 (by decide) ?_
      refine lv_iand hx hb dX3_follow_31 ?_
      refine lv_iconst (v := 1) hx hb dX3_follow_32 (by decide) ?_
      refine lv_icmp_ne (tgt := 63) hx hb dX3_follow_33 (by decide) (fun c14 => ?_) (fun c14 => ?_)
      · have h := h.1 c14
        exact (kM_follow_J63 F hO ih) σ x4 x5 x6 H locs ls hS (lv_sub hl [0, 1, 2, 3] rfl) h
      · have h := h.2 c14
        refine lv_aload_n hx hb dX3_follow_36 rfl (lv_at hl 0 rfl) ?_
        refine lv_iload_n hx hb dX3_follow_37 rfl (lv_at hl 3 rfl) ?_
        refine gw_callVi (As := [.int x6]) (rest := []) F hS (tM_hasScent l g hO σ x6 _ h) (cwV 1 hts (lw_V q1771 q1773 qs58 q90 q1774) rfl rfl rfl (by decide +kernel) ⟨Nat.le_of_ble_eq_true rfl, Nat.le_of_ble_eq_true rfl⟩) (m_rec F hO hS) rfl hl.1 rfl (Nat.le_of_ble_eq_true rfl) dX3_follow_38 ⟨Nat.le_refl 0, Nat.le_refl 0⟩ (fun r30 s29 H locs h hS => ?_)
        obtain ⟨zr30, h⟩ := h
        obtain ⟨b34, h⟩ := h
        refine gcut (P := ∀ (v33 : Int32) (H : Heap) (locs : List Loc) (ls : Array Slot), v33 = (if r30 = 0 then 0 else if (s29 24 x6.toNatClampNeg) = (s29 28 x4.toNatClampNeg) then 1 else 0) → gSt (MWd g) (MA g) s s29 H locs → lv_has ls 5 [(0, .ref (mad g 62)), (1, .int x4), (2, .int x5), (3, .int x6)] → W p l e rM_follow s m args below meth c H locs 0 0 (MQ below (va_Qi post (gB (MWd g)) (MA g)) args s 0 0 (MA g)) (F0 m 64 ls [.int v33])) (fun v33 H locs ls ev33 hS hl => ?_) (fun J35 => ?_)
        · have h := h v33 ev33
          refine lv_istore (lv' := [(4, .int v33), (0, .ref (mad g 62)), (1, .int x4), (2, .int x5), (3, .int x6)]) hx hb dX3_follow_64 hl (by decide) rfl (fun ls hl => ?_)
          refine lv_iload hx hb dX3_follow_66 (lv_at hl 0 rfl) ?_
          obtain ⟨b40, h⟩ := h
          refine gcut (P := ∀ (v39 : Int32) (H : Heap) (locs : List Loc) (ls : Array Slot), v39 = (if v33 = 0 then x5 else if x5 < 0 then x6 else if (s29 26 x6.toNatClampNeg) ≤ (s29 26 x5.toNatClampNeg) then x5 else x6) → gSt (MWd g) (MA g) s s29 H locs → lv_has ls 5 [(0, .ref (mad g 62)), (1, .int x4), (3, .int x6)] → W p l e rM_follow s m args below meth c H locs 0 0 (MQ below (va_Qi post (gB (MWd g)) (MA g)) args s 0 0 (MA g)) (F0 m 95 ls [.int v39])) (fun v39 H locs ls ev39 hS hl => ?_) (fun J41 => ?_)
          · have h := h v39 ev39
            refine lv_istore_n (lv' := [(2, .int v39), (0, .ref (mad g 62)), (1, .int x4), (3, .int x6)]) hx hb dX3_follow_95 rfl hl (by decide) rfl (fun ls hl => ?_)
            obtain ⟨x42, ex42⟩ : ∃ y : Int32, y = x6 + 1 := ⟨_, rfl⟩
            have h := h x42 ex42
            refine lv_iinc (v := x42) (lv' := [(3, .int x42), (2, .int v39), (0, .ref (mad g 62)), (1, .int x4)]) hx hb dX3_follow_96 hl (k := 3) rfl (by rw [ex42]; rfl) (by decide) rfl (fun ls hl => ?_)
            refine lv_goto (tgt := 14) hx hb dX3_follow_99 (by decide) ?_
            exact ih s29 x4 v39 x42 H locs ls hS (lv_sub hl [2, 3, 1, 0] rfl) h
          · refine lv_if_eq (tgt := 94) hx hb dX3_follow_68 (by decide) (fun c36 => ?_) (fun c36 => ?_)
            · refine lv_iload_n hx hb dX3_follow_94 rfl (lv_at hl 3 rfl) ?_
              exact J41 _ H locs ls (by first | with_reducible rfl | ((try rw [if_pos c36]); done)) hS (lv_sub hl [1, 2, 4] rfl)
            · refine lv_iload_n hx hb dX3_follow_71 rfl (lv_at hl 3 rfl) ?_
              refine lv_if_lt (tgt := 90) hx hb dX3_follow_72 (by decide) (fun c37 => ?_) (fun c37 => ?_)
              · refine lv_iload_n hx hb dX3_follow_90 rfl (lv_at hl 4 rfl) ?_
                refine lv_goto (tgt := 95) hx hb dX3_follow_91 (by decide) ?_
                exact J41 _ H locs ls (by first | with_reducible rfl | ((try rw [if_neg c36]); (try rw [if_pos c37]); done)) hS (lv_sub hl [1, 2, 4] rfl)
              · refine lv_aload_n hx hb dX3_follow_75 rfl (lv_at hl 1 rfl) ?_
                refine m_geta F hO hS 26 (by decide) rfl q1423 dX3_follow_76 ?_
                refine lv_iload_n hx hb dX3_follow_79 rfl (lv_at hl 4 rfl) ?_
                refine m_iald F hS 26 22 rfl rfl (((b40 c36) c37).1) dX3_follow_80 ?_
                refine lv_aload_n hx hb dX3_follow_81 rfl (lv_at hl 1 rfl) ?_
                refine m_geta F hO hS 26 (by decide) rfl q1423 dX3_follow_82 ?_
                refine lv_iload_n hx hb dX3_follow_85 rfl (lv_at hl 3 rfl) ?_
                refine m_iald F hS 26 22 rfl rfl (((b40 c36) c37).2) dX3_follow_86 ?_
                refine lv_icmp_le (tgt := 94) hx hb dX3_follow_87 (by decide) (fun c38 => ?_) (fun c38 => ?_)
                · refine lv_iload_n hx hb dX3_follow_94 rfl (lv_at hl 3 rfl) ?_
                  exact J41 _ H locs ls (by first | with_reducible rfl | ((try rw [if_neg c36]); (try rw [if_neg c37]); (try rw [if_pos c38]); done)) hS (lv_sub hl [1, 2, 4] rfl)
                · refine lv_iload_n hx hb dX3_follow_90 rfl (lv_at hl 4 rfl) ?_
                  refine lv_goto (tgt := 95) hx hb dX3_follow_91 (by decide) ?_
                  exact J41 _ H locs ls (by first | with_reducible rfl | ((try rw [if_neg c36]); (try rw [if_neg c37]); (try rw [if_neg c38]); done)) hS (lv_sub hl [1, 2, 4] rfl)
        · refine lv_if_eq (tgt := 63) hx hb dX3_follow_41 (by decide) (fun c31 => ?_) (fun c31 => ?_)
          · refine lv_iconst (v := 0) hx hb dX3_follow_63 (by decide) ?_
            exact J35 _ H locs ls (by first | with_reducible rfl | ((try rw [if_pos c31]); done)) hS (lv_sub hl [0, 1, 2, 3] rfl)
          · refine lv_aload_n hx hb dX3_follow_44 rfl (lv_at hl 0 rfl) ?_
            refine m_geta F hO hS 24 (by decide) rfl q1421 dX3_follow_45 ?_
            refine lv_iload_n hx hb dX3_follow_48 rfl (lv_at hl 3 rfl) ?_
            refine m_iald F hS 24 20 rfl rfl ((b34 c31).1) dX3_follow_49 ?_
            refine lv_aload_n hx hb dX3_follow_50 rfl (lv_at hl 0 rfl) ?_
            refine m_geta F hO hS 28 (by decide) rfl q1425 dX3_follow_51 ?_
            refine lv_iload_n hx hb dX3_follow_54 rfl (lv_at hl 1 rfl) ?_
            refine m_iald F hS 28 23 rfl rfl ((b34 c31).2) dX3_follow_55 ?_
            refine lv_icmp_ne (tgt := 63) hx hb dX3_follow_56 (by decide) (fun c32 => ?_) (fun c32 => ?_)
            · refine lv_iconst (v := 0) hx hb dX3_follow_63 (by decide) ?_
              exact J35 _ H locs ls (by first | with_reducible rfl | ((try rw [if_neg c31]); (try rw [if_neg c32]); done)) hS (lv_sub hl [0, 1, 2, 3] rfl)
            · refine lv_iconst (v := 1) hx hb dX3_follow_59 (by decide) ?_
              refine lv_goto (tgt := 64) hx hb dX3_follow_60 (by decide) ?_
              exact J35 _ H locs ls (by first | with_reducible rfl | ((try rw [if_neg c31]); (try rw [if_pos c32]); done)) hS (lv_sub hl [0, 1, 2, 3] rfl)
set_option maxHeartbeats 4000000 in
set_option maxRecDepth 100000 in
theorem kM_follow {p : Program} {l : Launch} {e : Env} {s : State} {m : MethodId} {args : Array Value} {below : List Frame} {meth : Method} {c : Code} {g : MG} {post : Int32 → MS → Prop} (F : gFx p s m c meth args cX3_follow 5 RX3 (some .int) (mD g) (mcl g) (mty g)) (hO : MOK g) (σ : MS) (a1 : Int32) (H : Heap) (locs : List Loc) (ls : Array Slot) (hS : gSt (MWd g) (MA g) s σ H locs) (hl : lv_has ls 5 [(0, .ref (mad g 62)), (1, .int a1)]) (h : wM_follow post σ a1) : W p l e rM_follow s m args below meth c H locs 0 0 (MQ below (va_Qi post (gB (MWd g)) (MA g)) args s 0 0 (MA g)) (F0 m 0 ls []) := by
  have hx := F.hx
  have hb := F.hb
  have hts := F.1.2.2.2.2
  have hown := F.1.2.2.2.1
  rw [wM_follow] at h
  refine lv_aload_n hx hb dX3_follow_0 rfl (lv_at hl 0 rfl) ?_
  refine lv_iload_n hx hb dX3_follow_1 rfl (lv_at hl 1 rfl) ?_
  refine gw_callVi (As := [.int a1]) (rest := []) F hS (tM_isHunter l g hO σ a1 _ h) (cwV 1 hts (lw_V q1783 q1785 qs59 q90 q1786) rfl rfl rfl (by decide +kernel) ⟨Nat.le_of_ble_eq_true rfl, Nat.le_of_ble_eq_true rfl⟩) (m_rec F hO hS) rfl hl.1 rfl (Nat.le_of_ble_eq_true rfl) dX3_follow_2 ⟨Nat.le_refl 0, Nat.le_refl 0⟩ (fun r2 s1 H locs h hS => ?_)
  obtain ⟨zr2, h⟩ := h
  refine lv_if_ne (tgt := 10) hx hb dX3_follow_5 (by decide) (fun c3 => ?_) (fun c3 => ?_)
  · have h := h.1 c3
    refine lv_iconst (v := (-1)) hx hb dX3_follow_10 (by decide) ?_
    refine lv_istore_n (lv' := [(2, .int (-1)), (0, .ref (mad g 62)), (1, .int a1)]) hx hb dX3_follow_11 rfl hl (by decide) rfl (fun ls hl => ?_)
    refine lv_iconst (v := 0) hx hb dX3_follow_12 (by decide) ?_
    refine lv_istore_n (lv' := [(3, .int 0), (2, .int (-1)), (0, .ref (mad g 62)), (1, .int a1)]) hx hb dX3_follow_13 rfl hl (by decide) rfl (fun ls hl => ?_)
    obtain ⟨n43, h⟩ := h
    exact (kM_follow_L14 F hO n43) s1 a1 (-1) 0 H locs ls hS (lv_sub hl [2, 3, 1, 0] rfl) h
  · have h := h.2 c3
    refine lv_iconst (v := (-1)) hx hb dX3_follow_8 (by decide) ?_
    exact gw_iret F hS h dX3_follow_9
set_option maxHeartbeats 4000000 in
set_option maxRecDepth 100000 in
theorem tM_follow (l : Launch) (g : MG) (hO : MOK g) (σ : MS) (a1 : Int32) (post : Int32 → MS → Prop) (h : wM_follow post σ a1) : Met l yX3_follow (ws_ yX3_follow cX3_follow 5 (some .int)) rM_follow (va_Pc [.ref (mad g 62), .int a1] (gPre (MWd g) (mD g) (mcl g) (mty g) σ)) (va_Qi post (gB (MWd g)) (MA g)) 0 0 (MA g) := by
  refine Met.ofW (cc := cX3_follow) (maxL := 5) (ret := (some .int)) (by decide) rfl ?_
  intro p e s m args below meth c s₁ B hml hv
  obtain ⟨rfl, hW, hK⟩ := hv
  have hts := atoms_spec (ws := (ws_ yX3_follow cX3_follow 5 (some .int))) B.pre
  have hts : ∀ w ∈ lw_all, w.before _ s = true := fun w h => hts w (List.mem_cons_of_mem _ h)
  have hl := lv_entry ([.ref (mad g 62), .int a1]) (n := 5) (Nat.le_of_ble_eq_true rfl)
  rw [lg_entry_eq]
  generalize (lg_sl ([.ref (mad g 62), .int a1]) ++ List.replicate (5 - (lg_sl ([.ref (mad g 62), .int a1])).length) Slot.unset).toArray = ls at hl ⊢
  exact kM_follow ⟨⟨B.exec, B.bytes, hml, findClass_of_methodNamed B.named, hts⟩, hK, B.returns, B.notSynchronized⟩ hO σ a1 s.heap [] ls ⟨hW, va_S.rf⟩ hl h
def wM_type_L73 (post : Int32 → MS → Prop) : Nat → MS → Int64 → Int32 → Prop
  | 0, _, _, _ => False
  | n + 1, σ, x10, x11 => (x11 < 0 → post (σ 43 0) σ) ∧ (¬ (x11 < 0) → (vp_in (σ 43 0) 80 ∧ ∀ s13 : MS, s13 = up2 σ 42 (σ 43 0).toNatClampNeg (((x10 >>> (((8 : Int32) * x11).toInt64 &&& 63)) &&& 255).toInt32) → ∀ s15 : MS, s15 = up2 s13 43 0 ((s13 43 0) + 1) → ∀ x16 : Int32, x16 = x11 + (-1) → wM_type_L73 post n s15 x10 x16))
def wM_type_L17 (post : Int32 → MS → Prop) : Nat → MS → Int64 → Int32 → Int32 → Prop
  | 0, _, _, _, _ => False
  | n + 1, σ, x4, x5, x6 => (x5 ≤ x6 → (((σ 43 0) + x5) ≤ 80 → (∀ x9 : Int32, x9 = x5 - 1 → ∃ n17, wM_type_L73 post n17 σ x4 x9)) ∧ (¬ (((σ 43 0) + x5) ≤ 80) → post (-3) σ)) ∧ (¬ (x5 ≤ x6) → wM_in (fun r19 s18 => (¬ (r19 = 0) → (∀ x21 : Int32, x21 = x6 + 1 → wM_type_L17 post n s18 x4 x5 x21)) ∧ (r19 = 0 → post (-1) s18)) σ ((x4 >>> (((8 : Int32) * x6).toInt64 &&& 63)) &&& 255) 32 126)
def wM_type (post : Int32 → MS → Prop) (σ : MS) (a1 : Int64) (a3 : Int32) : Prop := wM_in (fun r2 s1 => (¬ (r2 = 0) → ∃ n22, wM_type_L17 post n22 s1 a1 a3 0) ∧ (r2 = 0 → post (-1) s1)) σ a3.toInt64 1 8
abbrev rM_type : Room := { frames := 1, cells := 0, slots := 0, locals := 25 }
set_option maxHeartbeats 4000000 in
set_option maxRecDepth 100000 in
theorem kM_type_L73 {p : Program} {l : Launch} {e : Env} {s : State} {m : MethodId} {args : Array Value} {below : List Frame} {meth : Method} {c : Code} {g : MG} {post : Int32 → MS → Prop} (F : gFx p s m c meth args cX3_type 5 RX3 (some .int) (mD g) (mcl g) (mty g)) (hO : MOK g) : ∀ (n : Nat) (σ : MS) (x10 : Int64) (x11 : Int32) (H : Heap) (locs : List Loc) (ls : Array Slot), gSt (MWd g) (MA g) s σ H locs → lv_has ls 5 [(0, .ref (mad g 62)), (1, .long x10), (4, .int x11)] → wM_type_L73 post n σ x10 x11 → W p l e rM_type s m args below meth c H locs 0 0 (MQ below (va_Qi post (gB (MWd g)) (MA g)) args s 0 0 (MA g)) (F0 m 73 ls []) := by
  have hx := F.hx
  have hb := F.hb
  have hts := F.1.2.2.2.2
  have hown := F.1.2.2.2.1
  intro n
  induction n with
  | zero =>
    intro σ x10 x11 H locs ls hS hl h
    exact False.elim h
  | succ n ih =>
    intro σ x10 x11 H locs ls hS hl h
    rw [wM_type_L73] at h
    refine lv_iload hx hb dX3_type_73 (lv_at hl 2 rfl) ?_
    refine lv_if_lt (tgt := 115) hx hb dX3_type_75 (by decide) (fun c12 => ?_) (fun c12 => ?_)
    · have h := h.1 c12
      refine lv_aload_n hx hb dX3_type_115 rfl (lv_at hl 0 rfl) ?_
      refine m_geti F hO hS 43 (by decide) rfl q1440 dX3_type_116 ?_
      exact gw_iret F hS h dX3_type_119
    · have h := h.2 c12
      refine lv_aload_n hx hb dX3_type_78 rfl (lv_at hl 0 rfl) ?_
      refine m_geta F hO hS 42 (by decide) rfl q1439 dX3_type_79 ?_
      refine lv_aload_n hx hb dX3_type_82 rfl (lv_at hl 0 rfl) ?_
      refine m_geti F hO hS 43 (by decide) rfl q1440 dX3_type_83 ?_
      refine lv_lload_n hx hb dX3_type_86 rfl (lv_at hl 1 rfl) ?_
      refine lv_bipush (v := 8) hx hb dX3_type_87 (by decide) ?_
      refine lv_iload hx hb dX3_type_89 (lv_at hl 2 rfl) ?_
      refine lv_imul hx hb dX3_type_91 ?_
      refine lv_lshr hx hb dX3_type_92 rfl ?_
      refine lv_ldc2 (v := 255) hx hb hown (hts _ q1823) dX3_type_93 ?_
      refine lv_land hx hb dX3_type_96 ?_
      refine lv_l2i hx hb dX3_type_97 rfl ?_
      obtain ⟨b14, h⟩ := h
      refine m_iast F hO hS 42 35 rfl rfl b14 dX3_type_98 (fun s13 es13 H locs hS => ?_)
      have h := h s13 es13
      refine lv_aload_n hx hb dX3_type_99 rfl (lv_at hl 0 rfl) ?_
      refine lv_dup hx hb dX3_type_100 rfl ?_
      refine m_geti F hO hS 43 (by decide) rfl q1440 dX3_type_101 ?_
      refine lv_iconst (v := 1) hx hb dX3_type_104 (by decide) ?_
      refine lv_iadd hx hb dX3_type_105 ?_
      refine m_puti F hO hS 43 (by decide) rfl q1440 rfl (by decide +kernel) dX3_type_106 (fun s15 es15 H locs hS => ?_)
      have h := h s15 es15
      obtain ⟨x16, ex16⟩ : ∃ y : Int32, y = x11 + (-1) := ⟨_, rfl⟩
      have h := h x16 ex16
      refine lv_iinc (v := x16) (lv' := [(4, .int x16), (0, .ref (mad g 62)), (1, .long x10)]) hx hb dX3_type_109 hl (k := 2) rfl (by rw [ex16]; rfl) (by decide) rfl (fun ls hl => ?_)
      refine lv_goto (tgt := 73) hx hb dX3_type_112 (by decide) ?_
      exact ih s15 x10 x16 H locs ls hS (lv_sub hl [1, 2, 0] rfl) h
set_option maxHeartbeats 4000000 in
set_option maxRecDepth 100000 in
theorem kM_type_L17 {p : Program} {l : Launch} {e : Env} {s : State} {m : MethodId} {args : Array Value} {below : List Frame} {meth : Method} {c : Code} {g : MG} {post : Int32 → MS → Prop} (F : gFx p s m c meth args cX3_type 5 RX3 (some .int) (mD g) (mcl g) (mty g)) (hO : MOK g) : ∀ (n : Nat) (σ : MS) (x4 : Int64) (x5 : Int32) (x6 : Int32) (H : Heap) (locs : List Loc) (ls : Array Slot), gSt (MWd g) (MA g) s σ H locs → lv_has ls 5 [(0, .ref (mad g 62)), (1, .long x4), (3, .int x5), (4, .int x6)] → wM_type_L17 post n σ x4 x5 x6 → W p l e rM_type s m args below meth c H locs 0 0 (MQ below (va_Qi post (gB (MWd g)) (MA g)) args s 0 0 (MA g)) (F0 m 17 ls []) := by
  have hx := F.hx
  have hb := F.hb
  have hts := F.1.2.2.2.2
  have hown := F.1.2.2.2.1
  intro n
  induction n with
  | zero =>
    intro σ x4 x5 x6 H locs ls hS hl h
    exact False.elim h
  | succ n ih =>
    intro σ x4 x5 x6 H locs ls hS hl h
    rw [wM_type_L17] at h
    refine lv_iload hx hb dX3_type_17 (lv_at hl 3 rfl) ?_
    refine lv_iload_n hx hb dX3_type_19 rfl (lv_at hl 2 rfl) ?_
    refine lv_icmp_ge (tgt := 54) hx hb dX3_type_20 (by decide) (fun c7 => ?_) (fun c7 => ?_)
    · have h := h.1 c7
      refine lv_aload_n hx hb dX3_type_54 rfl (lv_at hl 0 rfl) ?_
      refine m_geti F hO hS 43 (by decide) rfl q1440 dX3_type_55 ?_
      refine lv_iload_n hx hb dX3_type_58 rfl (lv_at hl 2 rfl) ?_
      refine lv_iadd hx hb dX3_type_59 ?_
      refine lv_bipush (v := 80) hx hb dX3_type_60 (by decide) ?_
      refine lv_icmp_le (tgt := 68) hx hb dX3_type_62 (by decide) (fun c8 => ?_) (fun c8 => ?_)
      · have h := h.1 c8
        refine lv_iload_n hx hb dX3_type_68 rfl (lv_at hl 2 rfl) ?_
        refine lv_iconst (v := 1) hx hb dX3_type_69 (by decide) ?_
        refine lv_isub hx hb dX3_type_70 ?_
        refine lv_topi (fun x9 ex9 => ?_)
        have h := h x9 ex9
        refine lv_istore (lv' := [(4, .int x9), (0, .ref (mad g 62)), (1, .long x4), (3, .int x5)]) hx hb dX3_type_71 hl (by decide) rfl (fun ls hl => ?_)
        obtain ⟨n17, h⟩ := h
        exact (kM_type_L73 F hO n17) σ x4 x9 H locs ls hS (lv_sub hl [1, 2, 0] rfl) h
      · have h := h.2 c8
        refine lv_bipush (v := (-3)) hx hb dX3_type_65 (by decide) ?_
        exact gw_iret F hS h dX3_type_67
    · have h := h.2 c7
      refine lv_lload_n hx hb dX3_type_23 rfl (lv_at hl 1 rfl) ?_
      refine lv_bipush (v := 8) hx hb dX3_type_24 (by decide) ?_
      refine lv_iload hx hb dX3_type_26 (lv_at hl 3 rfl) ?_
      refine lv_imul hx hb dX3_type_28 ?_
      refine lv_lshr hx hb dX3_type_29 rfl ?_
      refine lv_ldc2 (v := 255) hx hb hown (hts _ q1823) dX3_type_30 ?_
      refine lv_land hx hb dX3_type_33 ?_
      refine lv_ldc2 (v := 32) hx hb hown (hts _ q1824) dX3_type_34 ?_
      refine lv_ldc2 (v := 126) hx hb hown (hts _ q1825) dX3_type_37 ?_
      refine gw_callSi (As := [.long ((x4 >>> (((8 : Int32) * x6).toInt64 &&& 63)) &&& 255), .long 32, .long 126]) (rest := []) F hS (tM_in l g hO σ ((x4 >>> (((8 : Int32) * x6).toInt64 &&& 63)) &&& 255) 32 126 _ h) (va_cwS 3 hts (lw_S q1593 q1594 q90 q1595) rfl rfl rfl (by decide +kernel) ⟨Nat.le_of_ble_eq_true rfl, Nat.le_of_ble_eq_true rfl⟩) rfl hl.1 rfl (Nat.le_of_ble_eq_true rfl) dX3_type_40 ⟨Nat.le_refl 0, Nat.le_refl 0⟩ (fun r19 s18 H locs h hS => ?_)
      obtain ⟨zr19, h⟩ := h
      refine lv_if_ne (tgt := 48) hx hb dX3_type_43 (by decide) (fun c20 => ?_) (fun c20 => ?_)
      · have h := h.1 c20
        obtain ⟨x21, ex21⟩ : ∃ y : Int32, y = x6 + 1 := ⟨_, rfl⟩
        have h := h x21 ex21
        refine lv_iinc (v := x21) (lv' := [(4, .int x21), (0, .ref (mad g 62)), (1, .long x4), (3, .int x5)]) hx hb dX3_type_48 hl (k := 3) rfl (by rw [ex21]; rfl) (by decide) rfl (fun ls hl => ?_)
        refine lv_goto (tgt := 17) hx hb dX3_type_51 (by decide) ?_
        exact ih s18 x4 x5 x21 H locs ls hS (lv_sub hl [1, 2, 3, 0] rfl) h
      · have h := h.2 c20
        refine lv_iconst (v := (-1)) hx hb dX3_type_46 (by decide) ?_
        exact gw_iret F hS h dX3_type_47
set_option maxHeartbeats 4000000 in
set_option maxRecDepth 100000 in
theorem kM_type {p : Program} {l : Launch} {e : Env} {s : State} {m : MethodId} {args : Array Value} {below : List Frame} {meth : Method} {c : Code} {g : MG} {post : Int32 → MS → Prop} (F : gFx p s m c meth args cX3_type 5 RX3 (some .int) (mD g) (mcl g) (mty g)) (hO : MOK g) (σ : MS) (a1 : Int64) (a3 : Int32) (H : Heap) (locs : List Loc) (ls : Array Slot) (hS : gSt (MWd g) (MA g) s σ H locs) (hl : lv_has ls 5 [(0, .ref (mad g 62)), (1, .long a1), (3, .int a3)]) (h : wM_type post σ a1 a3) : W p l e rM_type s m args below meth c H locs 0 0 (MQ below (va_Qi post (gB (MWd g)) (MA g)) args s 0 0 (MA g)) (F0 m 0 ls []) := by
  have hx := F.hx
  have hb := F.hb
  have hts := F.1.2.2.2.2
  have hown := F.1.2.2.2.1
  rw [wM_type] at h
  refine lv_iload_n hx hb dX3_type_0 rfl (lv_at hl 2 rfl) ?_
  refine lv_i2l hx hb dX3_type_1 rfl ?_
  refine lv_lconst (v := 1) hx hb dX3_type_2 (by decide) ?_
  refine lv_ldc2 (v := 8) hx hb hown (hts _ q1822) dX3_type_3 ?_
  refine gw_callSi (As := [.long a3.toInt64, .long 1, .long 8]) (rest := []) F hS (tM_in l g hO σ a3.toInt64 1 8 _ h) (va_cwS 3 hts (lw_S q1593 q1594 q90 q1595) rfl rfl rfl (by decide +kernel) ⟨Nat.le_of_ble_eq_true rfl, Nat.le_of_ble_eq_true rfl⟩) rfl hl.1 rfl (Nat.le_of_ble_eq_true rfl) dX3_type_6 ⟨Nat.le_refl 0, Nat.le_refl 0⟩ (fun r2 s1 H locs h hS => ?_)
  obtain ⟨zr2, h⟩ := h
  refine lv_if_ne (tgt := 14) hx hb dX3_type_9 (by decide) (fun c3 => ?_) (fun c3 => ?_)
  · have h := h.1 c3
    refine lv_iconst (v := 0) hx hb dX3_type_14 (by decide) ?_
    refine lv_istore (lv' := [(4, .int 0), (0, .ref (mad g 62)), (1, .long a1), (3, .int a3)]) hx hb dX3_type_15 hl (by decide) rfl (fun ls hl => ?_)
    obtain ⟨n22, h⟩ := h
    exact (kM_type_L17 F hO n22) s1 a1 a3 0 H locs ls hS (lv_sub hl [1, 2, 3, 0] rfl) h
  · have h := h.2 c3
    refine lv_iconst (v := (-1)) hx hb dX3_type_12 (by decide) ?_
    exact gw_iret F hS h dX3_type_13
set_option maxHeartbeats 4000000 in
set_option maxRecDepth 100000 in
theorem tM_type (l : Launch) (g : MG) (hO : MOK g) (σ : MS) (a1 : Int64) (a3 : Int32) (post : Int32 → MS → Prop) (h : wM_type post σ a1 a3) : Met l yX3_type (ws_ yX3_type cX3_type 5 (some .int)) rM_type (va_Pc [.ref (mad g 62), .long a1, .int a3] (gPre (MWd g) (mD g) (mcl g) (mty g) σ)) (va_Qi post (gB (MWd g)) (MA g)) 0 0 (MA g) := by
  refine Met.ofW (cc := cX3_type) (maxL := 5) (ret := (some .int)) (by decide) rfl ?_
  intro p e s m args below meth c s₁ B hml hv
  obtain ⟨rfl, hW, hK⟩ := hv
  have hts := atoms_spec (ws := (ws_ yX3_type cX3_type 5 (some .int))) B.pre
  have hts : ∀ w ∈ lw_all, w.before _ s = true := fun w h => hts w (List.mem_cons_of_mem _ h)
  have hl := lv_entry ([.ref (mad g 62), .long a1, .int a3]) (n := 5) (Nat.le_of_ble_eq_true rfl)
  rw [lg_entry_eq]
  generalize (lg_sl ([.ref (mad g 62), .long a1, .int a3]) ++ List.replicate (5 - (lg_sl ([.ref (mad g 62), .long a1, .int a3])).length) Slot.unset).toArray = ls at hl ⊢
  exact kM_type ⟨⟨B.exec, B.bytes, hml, findClass_of_methodNamed B.named, hts⟩, hK, B.returns, B.notSynchronized⟩ hO σ a1 a3 s.heap [] ls ⟨hW, va_S.rf⟩ hl h
