def wM_next_J38 (post : Int32 → MS → Prop) (σ : MS) : Prop := (((¬ ((σ 43 0) ≤ (σ 44 0)) → vp_in (σ 44 0) 80)) ∧ ∀ v3 : Int32, v3 = (if (σ 43 0) ≤ (σ 44 0) then 0 else σ 42 (σ 44 0).toNatClampNeg) → post v3 σ)
def wM_next_L0 (post : Int32 → MS → Prop) : Nat → MS → Prop
  | 0, _ => False
  | n + 1, σ => ((σ 43 0) ≤ (σ 44 0) → wM_next_J38 post σ) ∧ (¬ ((σ 43 0) ≤ (σ 44 0)) → (vp_in (σ 44 0) 80 ∧ (¬ ((σ 42 (σ 44 0).toNatClampNeg) = 32) → wM_next_J38 post σ) ∧ ((σ 42 (σ 44 0).toNatClampNeg) = 32 → (∀ s8 : MS, s8 = up2 σ 44 0 ((σ 44 0) + 1) → wM_next_L0 post n s8))))
def wM_next (post : Int32 → MS → Prop) (σ : MS) : Prop := ∃ n9, wM_next_L0 post n9 σ
abbrev rM_next : Room := { frames := 0, cells := 0, slots := 0, locals := 0 }
set_option maxHeartbeats 4000000 in
set_option maxRecDepth 100000 in
theorem kM_next_J38 {p : Program} {l : Launch} {e : Env} {s : State} {m : MethodId} {args : Array Value} {below : List Frame} {meth : Method} {c : Code} {g : MG} {post : Int32 → MS → Prop} (F : gFx p s m c meth args cX3_next 1 RX3 (some .int) (mD g) (mcl g) (mty g)) (hO : MOK g) : ∀ (σ : MS) (H : Heap) (locs : List Loc) (ls : Array Slot), gSt (MWd g) (MA g) s σ H locs → lv_has ls 1 [(0, .ref (mad g 62))] → wM_next_J38 post σ  → W p l e rM_next s m args below meth c H locs 0 0 (MQ below (va_Qi post (gB (MWd g)) (MA g)) args s 0 0 (MA g)) (F0 m 38 ls []) := by
  have hx := F.hx
  have hb := F.hb
  have hts := F.1.2.2.2.2
  have hown := F.1.2.2.2.1
  intro σ  H locs ls hS hl h
  rw [wM_next_J38] at h
  refine lv_aload_n hx hb dX3_next_38 rfl (lv_at hl 0 rfl) ?_
  refine m_geti F hO hS 44 (by decide) rfl q1441 dX3_next_39 ?_
  refine lv_aload_n hx hb dX3_next_42 rfl (lv_at hl 0 rfl) ?_
  refine m_geti F hO hS 43 (by decide) rfl q1440 dX3_next_43 ?_
  obtain ⟨b4, h⟩ := h
  refine gcut (P := ∀ (v3 : Int32) (H : Heap) (locs : List Loc) (ls : Array Slot), v3 = (if (σ 43 0) ≤ (σ 44 0) then 0 else σ 42 (σ 44 0).toNatClampNeg) → gSt (MWd g) (MA g) s σ H locs → lv_has ls 1 [] → W p l e rM_next s m args below meth c H locs 0 0 (MQ below (va_Qi post (gB (MWd g)) (MA g)) args s 0 0 (MA g)) (F0 m 62 ls [.int v3])) (fun v3 H locs ls ev3 hS hl => ?_) (fun J5 => ?_)
  · have h := h v3 ev3
    exact gw_iret F hS h dX3_next_62
  · refine lv_icmp_ge (tgt := 61) hx hb dX3_next_46 (by decide) (fun c2 => ?_) (fun c2 => ?_)
    · refine lv_iconst (v := 0) hx hb dX3_next_61 (by decide) ?_
      exact J5 _ H locs ls (by first | with_reducible rfl | ((try rw [if_pos c2]); done)) hS (lv_sub hl [] rfl)
    · refine lv_aload_n hx hb dX3_next_49 rfl (lv_at hl 0 rfl) ?_
      refine m_geta F hO hS 42 (by decide) rfl q1439 dX3_next_50 ?_
      refine lv_aload_n hx hb dX3_next_53 rfl (lv_at hl 0 rfl) ?_
      refine m_geti F hO hS 44 (by decide) rfl q1441 dX3_next_54 ?_
      refine m_iald F hS 42 35 rfl rfl ((b4 c2)) dX3_next_57 ?_
      refine lv_goto (tgt := 62) hx hb dX3_next_58 (by decide) ?_
      exact J5 _ H locs ls (by first | with_reducible rfl | ((try rw [if_neg c2]); done)) hS (lv_sub hl [] rfl)
set_option maxHeartbeats 4000000 in
set_option maxRecDepth 100000 in
theorem kM_next_L0 {p : Program} {l : Launch} {e : Env} {s : State} {m : MethodId} {args : Array Value} {below : List Frame} {meth : Method} {c : Code} {g : MG} {post : Int32 → MS → Prop} (F : gFx p s m c meth args cX3_next 1 RX3 (some .int) (mD g) (mcl g) (mty g)) (hO : MOK g) : ∀ (n : Nat) (σ : MS) (H : Heap) (locs : List Loc) (ls : Array Slot), gSt (MWd g) (MA g) s σ H locs → lv_has ls 1 [(0, .ref (mad g 62))] → wM_next_L0 post n σ  → W p l e rM_next s m args below meth c H locs 0 0 (MQ below (va_Qi post (gB (MWd g)) (MA g)) args s 0 0 (MA g)) (F0 m 0 ls []) := by
  have hx := F.hx
  have hb := F.hb
  have hts := F.1.2.2.2.2
  have hown := F.1.2.2.2.1
  intro n
  induction n with
  | zero =>
    intro σ  H locs ls hS hl h
    exact False.elim h
  | succ n ih =>
    intro σ  H locs ls hS hl h
    rw [wM_next_L0] at h
    refine lv_aload_n hx hb dX3_next_0 rfl (lv_at hl 0 rfl) ?_
    refine m_geti F hO hS 44 (by decide) rfl q1441 dX3_next_1 ?_
    refine lv_aload_n hx hb dX3_next_4 rfl (lv_at hl 0 rfl) ?_
    refine m_geti F hO hS 43 (by decide) rfl q1440 dX3_next_5 ?_
    refine lv_icmp_ge (tgt := 38) hx hb dX3_next_8 (by decide) (fun c1 => ?_) (fun c1 => ?_)
    · have h := h.1 c1
      exact (kM_next_J38 F hO) σ H locs ls hS (lv_sub hl [0] rfl) h
    · have h := h.2 c1
      refine lv_aload_n hx hb dX3_next_11 rfl (lv_at hl 0 rfl) ?_
      refine m_geta F hO hS 42 (by decide) rfl q1439 dX3_next_12 ?_
      refine lv_aload_n hx hb dX3_next_15 rfl (lv_at hl 0 rfl) ?_
      refine m_geti F hO hS 44 (by decide) rfl q1441 dX3_next_16 ?_
      obtain ⟨b6, h⟩ := h
      refine m_iald F hS 42 35 rfl rfl b6 dX3_next_19 ?_
      refine lv_bipush (v := 32) hx hb dX3_next_20 (by decide) ?_
      refine lv_icmp_ne (tgt := 38) hx hb dX3_next_22 (by decide) (fun c7 => ?_) (fun c7 => ?_)
      · have h := h.1 c7
        exact (kM_next_J38 F hO) σ H locs ls hS (lv_sub hl [0] rfl) h
      · have h := h.2 c7
        refine lv_aload_n hx hb dX3_next_25 rfl (lv_at hl 0 rfl) ?_
        refine lv_dup hx hb dX3_next_26 rfl ?_
        refine m_geti F hO hS 44 (by decide) rfl q1441 dX3_next_27 ?_
        refine lv_iconst (v := 1) hx hb dX3_next_30 (by decide) ?_
        refine lv_iadd hx hb dX3_next_31 ?_
        refine m_puti F hO hS 44 (by decide) rfl q1441 rfl (by decide +kernel) dX3_next_32 (fun s8 es8 H locs hS => ?_)
        have h := h s8 es8
        refine lv_goto (tgt := 0) hx hb dX3_next_35 (by decide) ?_
        exact ih s8 H locs ls hS (lv_sub hl [0] rfl) h
set_option maxHeartbeats 4000000 in
set_option maxRecDepth 100000 in
theorem kM_next {p : Program} {l : Launch} {e : Env} {s : State} {m : MethodId} {args : Array Value} {below : List Frame} {meth : Method} {c : Code} {g : MG} {post : Int32 → MS → Prop} (F : gFx p s m c meth args cX3_next 1 RX3 (some .int) (mD g) (mcl g) (mty g)) (hO : MOK g) (σ : MS) (H : Heap) (locs : List Loc) (ls : Array Slot) (hS : gSt (MWd g) (MA g) s σ H locs) (hl : lv_has ls 1 [(0, .ref (mad g 62))]) (h : wM_next post σ) : W p l e rM_next s m args below meth c H locs 0 0 (MQ below (va_Qi post (gB (MWd g)) (MA g)) args s 0 0 (MA g)) (F0 m 0 ls []) := by
  have hx := F.hx
  have hb := F.hb
  have hts := F.1.2.2.2.2
  have hown := F.1.2.2.2.1
  rw [wM_next] at h
  obtain ⟨n9, h⟩ := h
  exact (kM_next_L0 F hO n9) σ H locs ls hS (lv_sub hl [0] rfl) h
set_option maxHeartbeats 4000000 in
set_option maxRecDepth 100000 in
theorem tM_next (l : Launch) (g : MG) (hO : MOK g) (σ : MS) (post : Int32 → MS → Prop) (h : wM_next post σ) : Met l yX3_next (ws_ yX3_next cX3_next 1 (some .int)) rM_next (va_Pc [.ref (mad g 62)] (gPre (MWd g) (mD g) (mcl g) (mty g) σ)) (va_Qi post (gB (MWd g)) (MA g)) 0 0 (MA g) := by
  refine Met.ofW (cc := cX3_next) (maxL := 1) (ret := (some .int)) (by decide) rfl ?_
  intro p e s m args below meth c s₁ B hml hv
  obtain ⟨rfl, hW, hK⟩ := hv
  have hts := atoms_spec (ws := (ws_ yX3_next cX3_next 1 (some .int))) B.pre
  have hts : ∀ w ∈ lw_all, w.before _ s = true := fun w h => hts w (List.mem_cons_of_mem _ h)
  have hl := lv_entry ([.ref (mad g 62)]) (n := 1) (Nat.le_of_ble_eq_true rfl)
  rw [lg_entry_eq]
  generalize (lg_sl ([.ref (mad g 62)]) ++ List.replicate (1 - (lg_sl ([.ref (mad g 62)])).length) Slot.unset).toArray = ls at hl ⊢
  exact kM_next ⟨⟨B.exec, B.bytes, hml, findClass_of_methodNamed B.named, hts⟩, hK, B.returns, B.notSynchronized⟩ hO σ s.heap [] ls ⟨hW, va_S.rf⟩ hl h
def wM_needs_J21 (post : MS → Prop) (σ : MS) (x2 : Int32) : Prop := (bz x2 ∧ ∀ s3 : MS, s3 = up2 σ 45 0 x2 → (∀ v6 : Int32, v6 = (if (s3 45 0) = 0 then 1 else 0) → (∀ s8 : MS, s8 = up2 s3 44 0 ((s3 44 0) + v6) → post s8)))
def wM_needs_J16 (post : MS → Prop) (σ : MS) : Prop := wM_needs_J21 post σ 1
def wM_needs (post : MS → Prop) (σ : MS) (a1 : Int32) : Prop := (¬ ((σ 45 0) = 0) → wM_needs_J16 post σ) ∧ ((σ 45 0) = 0 → wM_next (fun r10 s9 => (∀ v12 : Int32, v12 = (if r10 = a1 then 0 else 1) → (∀ s14 : MS, s14 = up2 s9 45 0 v12 → (∀ v16 : Int32, v16 = (if (s14 45 0) = 0 then 1 else 0) → (∀ s18 : MS, s18 = up2 s14 44 0 ((s14 44 0) + v16) → post s18))))) σ)
abbrev rM_needs : Room := { frames := 1, cells := 0, slots := 0, locals := 20 }
set_option maxHeartbeats 4000000 in
set_option maxRecDepth 100000 in
theorem kM_needs_J21 {p : Program} {l : Launch} {e : Env} {s : State} {m : MethodId} {args : Array Value} {below : List Frame} {meth : Method} {c : Code} {g : MG} {post : MS → Prop} (F : gFx p s m c meth args cX3_needs 2 RX3 none (mD g) (mcl g) (mty g)) (hO : MOK g) : ∀ (σ : MS) (x2 : Int32) (H : Heap) (locs : List Loc) (ls : Array Slot), gSt (MWd g) (MA g) s σ H locs → lv_has ls 2 [(0, .ref (mad g 62))] → wM_needs_J21 post σ x2 → W p l e rM_needs s m args below meth c H locs 0 0 (MQ below (va_Qv post (gB (MWd g)) (MA g)) args s 0 0 (MA g)) (F0 m 21 ls [.int x2, .ref (mad g 62)]) := by
  have hx := F.hx
  have hb := F.hb
  have hts := F.1.2.2.2.2
  have hown := F.1.2.2.2.1
  intro σ x2 H locs ls hS hl h
  rw [wM_needs_J21] at h
  obtain ⟨b4, h⟩ := h
  refine m_putz F hO hS 45 (by decide) rfl q1442 rfl (by decide +kernel) b4 dX3_needs_21 (fun s3 es3 H locs hS => ?_)
  have h := h s3 es3
  refine lv_aload_n hx hb dX3_needs_24 rfl (lv_at hl 0 rfl) ?_
  refine lv_dup hx hb dX3_needs_25 rfl ?_
  refine m_geti F hO hS 44 (by decide) rfl q1441 dX3_needs_26 ?_
  refine lv_aload_n hx hb dX3_needs_29 rfl (lv_at hl 0 rfl) ?_
  refine m_geti F hO hS 45 (by decide) rfl q1442 dX3_needs_30 ?_
  refine gcut (P := ∀ (v6 : Int32) (H : Heap) (locs : List Loc) (ls : Array Slot), v6 = (if (s3 45 0) = 0 then 1 else 0) → gSt (MWd g) (MA g) s s3 H locs → lv_has ls 2 [] → W p l e rM_needs s m args below meth c H locs 0 0 (MQ below (va_Qv post (gB (MWd g)) (MA g)) args s 0 0 (MA g)) (F0 m 41 ls [.int v6, .int (s3 44 0), .ref (mad g 62)])) (fun v6 H locs ls ev6 hS hl => ?_) (fun J7 => ?_)
  · have h := h v6 ev6
    refine lv_iadd hx hb dX3_needs_41 ?_
    refine m_puti F hO hS 44 (by decide) rfl q1441 rfl (by decide +kernel) dX3_needs_42 (fun s8 es8 H locs hS => ?_)
    have h := h s8 es8
    exact gw_vret F hS h dX3_needs_45
  · refine lv_if_eq (tgt := 40) hx hb dX3_needs_33 (by decide) (fun c5 => ?_) (fun c5 => ?_)
    · refine lv_iconst (v := 1) hx hb dX3_needs_40 (by decide) ?_
      exact J7 _ H locs ls (by first | with_reducible rfl | ((try rw [if_pos c5]); done)) hS (lv_sub hl [] rfl)
    · refine lv_iconst (v := 0) hx hb dX3_needs_36 (by decide) ?_
      refine lv_goto (tgt := 41) hx hb dX3_needs_37 (by decide) ?_
      exact J7 _ H locs ls (by first | with_reducible rfl | ((try rw [if_neg c5]); done)) hS (lv_sub hl [] rfl)
set_option maxHeartbeats 4000000 in
set_option maxRecDepth 100000 in
theorem kM_needs_J16 {p : Program} {l : Launch} {e : Env} {s : State} {m : MethodId} {args : Array Value} {below : List Frame} {meth : Method} {c : Code} {g : MG} {post : MS → Prop} (F : gFx p s m c meth args cX3_needs 2 RX3 none (mD g) (mcl g) (mty g)) (hO : MOK g) : ∀ (σ : MS) (H : Heap) (locs : List Loc) (ls : Array Slot), gSt (MWd g) (MA g) s σ H locs → lv_has ls 2 [(0, .ref (mad g 62))] → wM_needs_J16 post σ  → W p l e rM_needs s m args below meth c H locs 0 0 (MQ below (va_Qv post (gB (MWd g)) (MA g)) args s 0 0 (MA g)) (F0 m 16 ls [.ref (mad g 62)]) := by
  have hx := F.hx
  have hb := F.hb
  have hts := F.1.2.2.2.2
  have hown := F.1.2.2.2.1
  intro σ  H locs ls hS hl h
  rw [wM_needs_J16] at h
  refine lv_iconst (v := 1) hx hb dX3_needs_16 (by decide) ?_
  refine lv_goto (tgt := 21) hx hb dX3_needs_17 (by decide) ?_
  exact (kM_needs_J21 F hO) σ 1 H locs ls hS (lv_sub hl [0] rfl) h
set_option maxHeartbeats 4000000 in
set_option maxRecDepth 100000 in
theorem kM_needs {p : Program} {l : Launch} {e : Env} {s : State} {m : MethodId} {args : Array Value} {below : List Frame} {meth : Method} {c : Code} {g : MG} {post : MS → Prop} (F : gFx p s m c meth args cX3_needs 2 RX3 none (mD g) (mcl g) (mty g)) (hO : MOK g) (σ : MS) (a1 : Int32) (H : Heap) (locs : List Loc) (ls : Array Slot) (hS : gSt (MWd g) (MA g) s σ H locs) (hl : lv_has ls 2 [(0, .ref (mad g 62)), (1, .int a1)]) (h : wM_needs post σ a1) : W p l e rM_needs s m args below meth c H locs 0 0 (MQ below (va_Qv post (gB (MWd g)) (MA g)) args s 0 0 (MA g)) (F0 m 0 ls []) := by
  have hx := F.hx
  have hb := F.hb
  have hts := F.1.2.2.2.2
  have hown := F.1.2.2.2.1
  rw [wM_needs] at h
  refine lv_aload_n hx hb dX3_needs_0 rfl (lv_at hl 0 rfl) ?_
  refine lv_aload_n hx hb dX3_needs_1 rfl (lv_at hl 0 rfl) ?_
  refine m_geti F hO hS 45 (by decide) rfl q1442 dX3_needs_2 ?_
  refine lv_if_ne (tgt := 16) hx hb dX3_needs_5 (by decide) (fun c1 => ?_) (fun c1 => ?_)
  · have h := h.1 c1
    exact (kM_needs_J16 F hO) σ H locs ls hS (lv_sub hl [0] rfl) h
  · have h := h.2 c1
    refine lv_aload_n hx hb dX3_needs_8 rfl (lv_at hl 0 rfl) ?_
    refine gw_callVi (As := []) (rest := [.ref (mad g 62)]) F hS (tM_next l g hO σ _ h) (cwV 0 hts (lw_V q1830 q1832 qs64 q90 q1833) rfl rfl rfl (by decide +kernel) ⟨Nat.le_of_ble_eq_true rfl, Nat.le_of_ble_eq_true rfl⟩) (m_rec F hO hS) rfl hl.1 rfl (Nat.le_of_ble_eq_true rfl) dX3_needs_9 ⟨Nat.le_refl 0, Nat.le_refl 0⟩ (fun r10 s9 H locs h hS => ?_)
    refine lv_iload_n hx hb dX3_needs_12 rfl (lv_at hl 1 rfl) ?_
    refine gcut (P := ∀ (v12 : Int32) (H : Heap) (locs : List Loc) (ls : Array Slot), v12 = (if r10 = a1 then 0 else 1) → gSt (MWd g) (MA g) s s9 H locs → lv_has ls 2 [(0, .ref (mad g 62))] → W p l e rM_needs s m args below meth c H locs 0 0 (MQ below (va_Qv post (gB (MWd g)) (MA g)) args s 0 0 (MA g)) (F0 m 21 ls [.int v12, .ref (mad g 62)])) (fun v12 H locs ls ev12 hS hl => ?_) (fun J13 => ?_)
    · have h := h v12 ev12
      refine m_putz F hO hS 45 (by decide) rfl q1442 rfl (by decide +kernel) (by rw [ev12]; exact (bz_ite bz0 bz1)) dX3_needs_21 (fun s14 es14 H locs hS => ?_)
      have h := h s14 es14
      refine lv_aload_n hx hb dX3_needs_24 rfl (lv_at hl 0 rfl) ?_
      refine lv_dup hx hb dX3_needs_25 rfl ?_
      refine m_geti F hO hS 44 (by decide) rfl q1441 dX3_needs_26 ?_
      refine lv_aload_n hx hb dX3_needs_29 rfl (lv_at hl 0 rfl) ?_
      refine m_geti F hO hS 45 (by decide) rfl q1442 dX3_needs_30 ?_
      refine gcut (P := ∀ (v16 : Int32) (H : Heap) (locs : List Loc) (ls : Array Slot), v16 = (if (s14 45 0) = 0 then 1 else 0) → gSt (MWd g) (MA g) s s14 H locs → lv_has ls 2 [] → W p l e rM_needs s m args below meth c H locs 0 0 (MQ below (va_Qv post (gB (MWd g)) (MA g)) args s 0 0 (MA g)) (F0 m 41 ls [.int v16, .int (s14 44 0), .ref (mad g 62)])) (fun v16 H locs ls ev16 hS hl => ?_) (fun J17 => ?_)
      · have h := h v16 ev16
        refine lv_iadd hx hb dX3_needs_41 ?_
        refine m_puti F hO hS 44 (by decide) rfl q1441 rfl (by decide +kernel) dX3_needs_42 (fun s18 es18 H locs hS => ?_)
        have h := h s18 es18
        exact gw_vret F hS h dX3_needs_45
      · refine lv_if_eq (tgt := 40) hx hb dX3_needs_33 (by decide) (fun c15 => ?_) (fun c15 => ?_)
        · refine lv_iconst (v := 1) hx hb dX3_needs_40 (by decide) ?_
          exact J17 _ H locs ls (by first | with_reducible rfl | ((try rw [if_pos c15]); done)) hS (lv_sub hl [] rfl)
        · refine lv_iconst (v := 0) hx hb dX3_needs_36 (by decide) ?_
          refine lv_goto (tgt := 41) hx hb dX3_needs_37 (by decide) ?_
          exact J17 _ H locs ls (by first | with_reducible rfl | ((try rw [if_neg c15]); done)) hS (lv_sub hl [] rfl)
    · refine lv_icmp_eq (tgt := 20) hx hb dX3_needs_13 (by decide) (fun c11 => ?_) (fun c11 => ?_)
      · refine lv_iconst (v := 0) hx hb dX3_needs_20 (by decide) ?_
        exact J13 _ H locs ls (by first | with_reducible rfl | ((try rw [if_pos c11]); done)) hS (lv_sub hl [0] rfl)
      · refine lv_iconst (v := 1) hx hb dX3_needs_16 (by decide) ?_
        refine lv_goto (tgt := 21) hx hb dX3_needs_17 (by decide) ?_
        exact J13 _ H locs ls (by first | with_reducible rfl | ((try rw [if_neg c11]); done)) hS (lv_sub hl [0] rfl)
set_option maxHeartbeats 4000000 in
set_option maxRecDepth 100000 in
theorem tM_needs (l : Launch) (g : MG) (hO : MOK g) (σ : MS) (a1 : Int32) (post : MS → Prop) (h : wM_needs post σ a1) : Met l yX3_needs (ws_ yX3_needs cX3_needs 2 none) rM_needs (va_Pc [.ref (mad g 62), .int a1] (gPre (MWd g) (mD g) (mcl g) (mty g) σ)) (va_Qv post (gB (MWd g)) (MA g)) 0 0 (MA g) := by
  refine Met.ofW (cc := cX3_needs) (maxL := 2) (ret := none) (by decide) rfl ?_
  intro p e s m args below meth c s₁ B hml hv
  obtain ⟨rfl, hW, hK⟩ := hv
  have hts := atoms_spec (ws := (ws_ yX3_needs cX3_needs 2 none)) B.pre
  have hts : ∀ w ∈ lw_all, w.before _ s = true := fun w h => hts w (List.mem_cons_of_mem _ h)
  have hl := lv_entry ([.ref (mad g 62), .int a1]) (n := 2) (Nat.le_of_ble_eq_true rfl)
  rw [lg_entry_eq]
  generalize (lg_sl ([.ref (mad g 62), .int a1]) ++ List.replicate (2 - (lg_sl ([.ref (mad g 62), .int a1])).length) Slot.unset).toArray = ls at hl ⊢
  exact kM_needs ⟨⟨B.exec, B.bytes, hml, findClass_of_methodNamed B.named, hts⟩, hK, B.returns, B.notSynchronized⟩ hO σ a1 s.heap [] ls ⟨hW, va_S.rf⟩ hl h
def wM_passes_J20 (post : Int32 → MS → Prop) (σ : MS) (x2 : Int32) : Prop := (∀ v4 : Int32, v4 = (if x2 = 0 then 0 else 1) → (∀ s6 : MS, s6 = up2 σ 44 0 ((σ 44 0) + v4) → bz x2 ∧ post x2 s6))
def wM_passes_J19 (post : Int32 → MS → Prop) (σ : MS) : Prop := wM_passes_J20 post σ 0
def wM_passes (post : Int32 → MS → Prop) (σ : MS) (a1 : Int32) : Prop := (¬ ((σ 45 0) = 0) → wM_passes_J19 post σ) ∧ ((σ 45 0) = 0 → wM_next (fun r8 s7 => (∀ v10 : Int32, v10 = (if r8 = a1 then 1 else 0) → (∀ v13 : Int32, v13 = (if v10 = 0 then 0 else 1) → (∀ s15 : MS, s15 = up2 s7 44 0 ((s7 44 0) + v13) → post v10 s15)))) σ)
abbrev rM_passes : Room := { frames := 1, cells := 0, slots := 0, locals := 20 }
set_option maxHeartbeats 4000000 in
set_option maxRecDepth 100000 in
theorem kM_passes_J20 {p : Program} {l : Launch} {e : Env} {s : State} {m : MethodId} {args : Array Value} {below : List Frame} {meth : Method} {c : Code} {g : MG} {post : Int32 → MS → Prop} (F : gFx p s m c meth args cX3_passes 3 RX3 (some .boolean) (mD g) (mcl g) (mty g)) (hO : MOK g) : ∀ (σ : MS) (x2 : Int32) (H : Heap) (locs : List Loc) (ls : Array Slot), gSt (MWd g) (MA g) s σ H locs → lv_has ls 3 [(0, .ref (mad g 62))] → wM_passes_J20 post σ x2 → W p l e rM_passes s m args below meth c H locs 0 0 (MQ below (va_Qi (zpost post) (gB (MWd g)) (MA g)) args s 0 0 (MA g)) (F0 m 20 ls [.int x2]) := by
  have hx := F.hx
  have hb := F.hb
  have hts := F.1.2.2.2.2
  have hown := F.1.2.2.2.1
  intro σ x2 H locs ls hS hl h
  rw [wM_passes_J20] at h
  refine lv_istore_n (lv' := [(2, .int x2), (0, .ref (mad g 62))]) hx hb dX3_passes_20 rfl hl (by decide) rfl (fun ls hl => ?_)
  refine lv_aload_n hx hb dX3_passes_21 rfl (lv_at hl 1 rfl) ?_
  refine lv_dup hx hb dX3_passes_22 rfl ?_
  refine m_geti F hO hS 44 (by decide) rfl q1441 dX3_passes_23 ?_
  refine lv_iload_n hx hb dX3_passes_26 rfl (lv_at hl 0 rfl) ?_
  refine gcut (P := ∀ (v4 : Int32) (H : Heap) (locs : List Loc) (ls : Array Slot), v4 = (if x2 = 0 then 0 else 1) → gSt (MWd g) (MA g) s σ H locs → lv_has ls 3 [(2, .int x2)] → W p l e rM_passes s m args below meth c H locs 0 0 (MQ below (va_Qi (zpost post) (gB (MWd g)) (MA g)) args s 0 0 (MA g)) (F0 m 35 ls [.int v4, .int (σ 44 0), .ref (mad g 62)])) (fun v4 H locs ls ev4 hS hl => ?_) (fun J5 => ?_)
  · have h := h v4 ev4
    refine lv_iadd hx hb dX3_passes_35 ?_
    refine m_puti F hO hS 44 (by decide) rfl q1441 rfl (by decide +kernel) dX3_passes_36 (fun s6 es6 H locs hS => ?_)
    have h := h s6 es6
    refine lv_iload_n hx hb dX3_passes_39 rfl (lv_at hl 0 rfl) ?_
    exact gw_zret F hS h.1 h.2 dX3_passes_40
  · refine lv_if_eq (tgt := 34) hx hb dX3_passes_27 (by decide) (fun c3 => ?_) (fun c3 => ?_)
    · refine lv_iconst (v := 0) hx hb dX3_passes_34 (by decide) ?_
      exact J5 _ H locs ls (by first | with_reducible rfl | ((try rw [if_pos c3]); done)) hS (lv_sub hl [0] rfl)
    · refine lv_iconst (v := 1) hx hb dX3_passes_30 (by decide) ?_
      refine lv_goto (tgt := 35) hx hb dX3_passes_31 (by decide) ?_
      exact J5 _ H locs ls (by first | with_reducible rfl | ((try rw [if_neg c3]); done)) hS (lv_sub hl [0] rfl)
set_option maxHeartbeats 4000000 in
set_option maxRecDepth 100000 in
theorem kM_passes_J19 {p : Program} {l : Launch} {e : Env} {s : State} {m : MethodId} {args : Array Value} {below : List Frame} {meth : Method} {c : Code} {g : MG} {post : Int32 → MS → Prop} (F : gFx p s m c meth args cX3_passes 3 RX3 (some .boolean) (mD g) (mcl g) (mty g)) (hO : MOK g) : ∀ (σ : MS) (H : Heap) (locs : List Loc) (ls : Array Slot), gSt (MWd g) (MA g) s σ H locs → lv_has ls 3 [(0, .ref (mad g 62))] → wM_passes_J19 post σ  → W p l e rM_passes s m args below meth c H locs 0 0 (MQ below (va_Qi (zpost post) (gB (MWd g)) (MA g)) args s 0 0 (MA g)) (F0 m 19 ls []) := by
  have hx := F.hx
  have hb := F.hb
  have hts := F.1.2.2.2.2
  have hown := F.1.2.2.2.1
  intro σ  H locs ls hS hl h
  rw [wM_passes_J19] at h
  refine lv_iconst (v := 0) hx hb dX3_passes_19 (by decide) ?_
  exact (kM_passes_J20 F hO) σ 0 H locs ls hS (lv_sub hl [0] rfl) h
set_option maxHeartbeats 4000000 in
set_option maxRecDepth 100000 in
theorem kM_passes {p : Program} {l : Launch} {e : Env} {s : State} {m : MethodId} {args : Array Value} {below : List Frame} {meth : Method} {c : Code} {g : MG} {post : Int32 → MS → Prop} (F : gFx p s m c meth args cX3_passes 3 RX3 (some .boolean) (mD g) (mcl g) (mty g)) (hO : MOK g) (σ : MS) (a1 : Int32) (H : Heap) (locs : List Loc) (ls : Array Slot) (hS : gSt (MWd g) (MA g) s σ H locs) (hl : lv_has ls 3 [(0, .ref (mad g 62)), (1, .int a1)]) (h : wM_passes post σ a1) : W p l e rM_passes s m args below meth c H locs 0 0 (MQ below (va_Qi (zpost post) (gB (MWd g)) (MA g)) args s 0 0 (MA g)) (F0 m 0 ls []) := by
  have hx := F.hx
  have hb := F.hb
  have hts := F.1.2.2.2.2
  have hown := F.1.2.2.2.1
  rw [wM_passes] at h
  refine lv_aload_n hx hb dX3_passes_0 rfl (lv_at hl 0 rfl) ?_
  refine m_geti F hO hS 45 (by decide) rfl q1442 dX3_passes_1 ?_
  refine lv_if_ne (tgt := 19) hx hb dX3_passes_4 (by decide) (fun c1 => ?_) (fun c1 => ?_)
  · have h := h.1 c1
    exact (kM_passes_J19 F hO) σ H locs ls hS (lv_sub hl [0] rfl) h
  · have h := h.2 c1
    refine lv_aload_n hx hb dX3_passes_7 rfl (lv_at hl 0 rfl) ?_
    refine gw_callVi (As := []) (rest := []) F hS (tM_next l g hO σ _ h) (cwV 0 hts (lw_V q1830 q1832 qs64 q90 q1833) rfl rfl rfl (by decide +kernel) ⟨Nat.le_of_ble_eq_true rfl, Nat.le_of_ble_eq_true rfl⟩) (m_rec F hO hS) rfl hl.1 rfl (Nat.le_of_ble_eq_true rfl) dX3_passes_8 ⟨Nat.le_refl 0, Nat.le_refl 0⟩ (fun r8 s7 H locs h hS => ?_)
    refine lv_iload_n hx hb dX3_passes_11 rfl (lv_at hl 1 rfl) ?_
    refine gcut (P := ∀ (v10 : Int32) (H : Heap) (locs : List Loc) (ls : Array Slot), v10 = (if r8 = a1 then 1 else 0) → gSt (MWd g) (MA g) s s7 H locs → lv_has ls 3 [(0, .ref (mad g 62))] → W p l e rM_passes s m args below meth c H locs 0 0 (MQ below (va_Qi (zpost post) (gB (MWd g)) (MA g)) args s 0 0 (MA g)) (F0 m 20 ls [.int v10])) (fun v10 H locs ls ev10 hS hl => ?_) (fun J11 => ?_)
    · have h := h v10 ev10
      refine lv_istore_n (lv' := [(2, .int v10), (0, .ref (mad g 62))]) hx hb dX3_passes_20 rfl hl (by decide) rfl (fun ls hl => ?_)
      refine lv_aload_n hx hb dX3_passes_21 rfl (lv_at hl 1 rfl) ?_
      refine lv_dup hx hb dX3_passes_22 rfl ?_
      refine m_geti F hO hS 44 (by decide) rfl q1441 dX3_passes_23 ?_
      refine lv_iload_n hx hb dX3_passes_26 rfl (lv_at hl 0 rfl) ?_
      refine gcut (P := ∀ (v13 : Int32) (H : Heap) (locs : List Loc) (ls : Array Slot), v13 = (if v10 = 0 then 0 else 1) → gSt (MWd g) (MA g) s s7 H locs → lv_has ls 3 [(2, .int v10)] → W p l e rM_passes s m args below meth c H locs 0 0 (MQ below (va_Qi (zpost post) (gB (MWd g)) (MA g)) args s 0 0 (MA g)) (F0 m 35 ls [.int v13, .int (s7 44 0), .ref (mad g 62)])) (fun v13 H locs ls ev13 hS hl => ?_) (fun J14 => ?_)
      · have h := h v13 ev13
        refine lv_iadd hx hb dX3_passes_35 ?_
        refine m_puti F hO hS 44 (by decide) rfl q1441 rfl (by decide +kernel) dX3_passes_36 (fun s15 es15 H locs hS => ?_)
        have h := h s15 es15
        refine lv_iload_n hx hb dX3_passes_39 rfl (lv_at hl 0 rfl) ?_
        exact gw_zret F hS (by rw [ev10]; exact (bz_ite bz1 bz0)) h dX3_passes_40
      · refine lv_if_eq (tgt := 34) hx hb dX3_passes_27 (by decide) (fun c12 => ?_) (fun c12 => ?_)
        · refine lv_iconst (v := 0) hx hb dX3_passes_34 (by decide) ?_
          exact J14 _ H locs ls (by first | with_reducible rfl | ((try rw [if_pos c12]); done)) hS (lv_sub hl [0] rfl)
        · refine lv_iconst (v := 1) hx hb dX3_passes_30 (by decide) ?_
          refine lv_goto (tgt := 35) hx hb dX3_passes_31 (by decide) ?_
          exact J14 _ H locs ls (by first | with_reducible rfl | ((try rw [if_neg c12]); done)) hS (lv_sub hl [0] rfl)
    · refine lv_icmp_ne (tgt := 19) hx hb dX3_passes_12 (by decide) (fun c9 => ?_) (fun c9 => ?_)
      · refine lv_iconst (v := 0) hx hb dX3_passes_19 (by decide) ?_
        exact J11 _ H locs ls (by first | with_reducible rfl | ((try rw [if_neg c9]); done)) hS (lv_sub hl [0] rfl)
      · refine lv_iconst (v := 1) hx hb dX3_passes_15 (by decide) ?_
        refine lv_goto (tgt := 20) hx hb dX3_passes_16 (by decide) ?_
        exact J11 _ H locs ls (by first | with_reducible rfl | ((try rw [if_pos c9]); done)) hS (lv_sub hl [0] rfl)
set_option maxHeartbeats 4000000 in
set_option maxRecDepth 100000 in
theorem tM_passes (l : Launch) (g : MG) (hO : MOK g) (σ : MS) (a1 : Int32) (post : Int32 → MS → Prop) (h : wM_passes post σ a1) : Met l yX3_passes (ws_ yX3_passes cX3_passes 3 (some .boolean)) rM_passes (va_Pc [.ref (mad g 62), .int a1] (gPre (MWd g) (mD g) (mcl g) (mty g) σ)) (va_Qi (zpost post) (gB (MWd g)) (MA g)) 0 0 (MA g) := by
  refine Met.ofW (cc := cX3_passes) (maxL := 3) (ret := (some .boolean)) (by decide) rfl ?_
  intro p e s m args below meth c s₁ B hml hv
  obtain ⟨rfl, hW, hK⟩ := hv
  have hts := atoms_spec (ws := (ws_ yX3_passes cX3_passes 3 (some .boolean))) B.pre
  have hts : ∀ w ∈ lw_all, w.before _ s = true := fun w h => hts w (List.mem_cons_of_mem _ h)
  have hl := lv_entry ([.ref (mad g 62), .int a1]) (n := 3) (Nat.le_of_ble_eq_true rfl)
  rw [lg_entry_eq]
  generalize (lg_sl ([.ref (mad g 62), .int a1]) ++ List.replicate (3 - (lg_sl ([.ref (mad g 62), .int a1])).length) Slot.unset).toArray = ls at hl ⊢
  exact kM_passes ⟨⟨B.exec, B.bytes, hml, findClass_of_methodNamed B.named, hts⟩, hK, B.returns, B.notSynchronized⟩ hO σ a1 s.heap [] ls ⟨hW, va_S.rf⟩ hl h
def wM_emits (post : MS → Prop) (σ : MS) (a1 : Int32) (a2 : Int32) : Prop := (vp_in (((80 : Int32) * (σ 33 0)) + (σ 46 0)) 1360 ∧ ∀ s1 : MS, s1 = up2 σ 40 (((80 : Int32) * (σ 33 0)) + (σ 46 0)).toNatClampNeg a1 → vp_in (((80 : Int32) * (s1 33 0)) + (s1 46 0)) 1360 ∧ ∀ s3 : MS, s3 = up2 s1 41 (((80 : Int32) * (s1 33 0)) + (s1 46 0)).toNatClampNeg a2 → ∀ s5 : MS, s5 = up2 s3 46 0 ((s3 46 0) + 1) → post s5)
abbrev rM_emits : Room := { frames := 0, cells := 0, slots := 0, locals := 0 }
set_option maxHeartbeats 4000000 in
set_option maxRecDepth 100000 in
theorem kM_emits {p : Program} {l : Launch} {e : Env} {s : State} {m : MethodId} {args : Array Value} {below : List Frame} {meth : Method} {c : Code} {g : MG} {post : MS → Prop} (F : gFx p s m c meth args cX3_emits 3 RX3 none (mD g) (mcl g) (mty g)) (hO : MOK g) (σ : MS) (a1 : Int32) (a2 : Int32) (H : Heap) (locs : List Loc) (ls : Array Slot) (hS : gSt (MWd g) (MA g) s σ H locs) (hl : lv_has ls 3 [(0, .ref (mad g 62)), (1, .int a1), (2, .int a2)]) (h : wM_emits post σ a1 a2) : W p l e rM_emits s m args below meth c H locs 0 0 (MQ below (va_Qv post (gB (MWd g)) (MA g)) args s 0 0 (MA g)) (F0 m 0 ls []) := by
  have hx := F.hx
  have hb := F.hb
  have hts := F.1.2.2.2.2
  have hown := F.1.2.2.2.1
  rw [wM_emits] at h
  refine lv_aload_n hx hb dX3_emits_0 rfl (lv_at hl 0 rfl) ?_
  refine m_geta F hO hS 40 (by decide) rfl q1437 dX3_emits_1 ?_
  refine lv_bipush (v := 80) hx hb dX3_emits_4 (by decide) ?_
  refine lv_aload_n hx hb dX3_emits_6 rfl (lv_at hl 0 rfl) ?_
  refine m_geti F hO hS 33 (by decide) rfl q1430 dX3_emits_7 ?_
  refine lv_imul hx hb dX3_emits_10 ?_
  refine lv_aload_n hx hb dX3_emits_11 rfl (lv_at hl 0 rfl) ?_
  refine m_geti F hO hS 46 (by decide) rfl q1443 dX3_emits_12 ?_
  refine lv_iadd hx hb dX3_emits_15 ?_
  refine lv_iload_n hx hb dX3_emits_16 rfl (lv_at hl 1 rfl) ?_
  obtain ⟨b2, h⟩ := h
  refine m_iast F hO hS 40 33 rfl rfl b2 dX3_emits_17 (fun s1 es1 H locs hS => ?_)
  have h := h s1 es1
  refine lv_aload_n hx hb dX3_emits_18 rfl (lv_at hl 0 rfl) ?_
  refine m_geta F hO hS 41 (by decide) rfl q1438 dX3_emits_19 ?_
  refine lv_bipush (v := 80) hx hb dX3_emits_22 (by decide) ?_
  refine lv_aload_n hx hb dX3_emits_24 rfl (lv_at hl 0 rfl) ?_
  refine m_geti F hO hS 33 (by decide) rfl q1430 dX3_emits_25 ?_
  refine lv_imul hx hb dX3_emits_28 ?_
  refine lv_aload_n hx hb dX3_emits_29 rfl (lv_at hl 0 rfl) ?_
  refine m_geti F hO hS 46 (by decide) rfl q1443 dX3_emits_30 ?_
  refine lv_iadd hx hb dX3_emits_33 ?_
  refine lv_iload_n hx hb dX3_emits_34 rfl (lv_at hl 2 rfl) ?_
  obtain ⟨b4, h⟩ := h
  refine m_iast F hO hS 41 34 rfl rfl b4 dX3_emits_35 (fun s3 es3 H locs hS => ?_)
  have h := h s3 es3
  refine lv_aload_n hx hb dX3_emits_36 rfl (lv_at hl 0 rfl) ?_
  refine lv_dup hx hb dX3_emits_37 rfl ?_
  refine m_geti F hO hS 46 (by decide) rfl q1443 dX3_emits_38 ?_
  refine lv_iconst (v := 1) hx hb dX3_emits_41 (by decide) ?_
  refine lv_iadd hx hb dX3_emits_42 ?_
  refine m_puti F hO hS 46 (by decide) rfl q1443 rfl (by decide +kernel) dX3_emits_43 (fun s5 es5 H locs hS => ?_)
  have h := h s5 es5
  exact gw_vret F hS h dX3_emits_46
set_option maxHeartbeats 4000000 in
set_option maxRecDepth 100000 in
theorem tM_emits (l : Launch) (g : MG) (hO : MOK g) (σ : MS) (a1 : Int32) (a2 : Int32) (post : MS → Prop) (h : wM_emits post σ a1 a2) : Met l yX3_emits (ws_ yX3_emits cX3_emits 3 none) rM_emits (va_Pc [.ref (mad g 62), .int a1, .int a2] (gPre (MWd g) (mD g) (mcl g) (mty g) σ)) (va_Qv post (gB (MWd g)) (MA g)) 0 0 (MA g) := by
  refine Met.ofW (cc := cX3_emits) (maxL := 3) (ret := none) (by decide) rfl ?_
  intro p e s m args below meth c s₁ B hml hv
  obtain ⟨rfl, hW, hK⟩ := hv
  have hts := atoms_spec (ws := (ws_ yX3_emits cX3_emits 3 none)) B.pre
  have hts : ∀ w ∈ lw_all, w.before _ s = true := fun w h => hts w (List.mem_cons_of_mem _ h)
  have hl := lv_entry ([.ref (mad g 62), .int a1, .int a2]) (n := 3) (Nat.le_of_ble_eq_true rfl)
  rw [lg_entry_eq]
  generalize (lg_sl ([.ref (mad g 62), .int a1, .int a2]) ++ List.replicate (3 - (lg_sl ([.ref (mad g 62), .int a1, .int a2])).length) Slot.unset).toArray = ls at hl ⊢
  exact kM_emits ⟨⟨B.exec, B.bytes, hml, findClass_of_methodNamed B.named, hts⟩, hK, B.returns, B.notSynchronized⟩ hO σ a1 a2 s.heap [] ls ⟨hW, va_S.rf⟩ hl h
def wM_word_J112 (post : MS → Prop) (σ : MS) (x28 : Int32) (x29 : Int32) : Prop := (∀ v31 : Int32, v31 = (if x29 ≤ 999 then 0 else 1) → (∀ s33 : MS, s33 = up2 σ 45 0 v31 → (∀ v35 : Int32, v35 = (if (s33 45 0) = 0 then s33 44 0 else x28) → (∀ s37 : MS, s37 = up2 s33 44 0 v35 → wM_emits (fun s38 => post s38) s37 0 x29))))
def wM_word_L37 (post : MS → Prop) : Nat → MS → Int32 → Int32 → Prop
  | 0, _, _, _ => False
  | n + 1, σ, x25, x26 => ((σ 43 0) ≤ (σ 44 0) → wM_word_J112 post σ x25 x26) ∧ (¬ ((σ 43 0) ≤ (σ 44 0)) → (vp_in (σ 44 0) 80 ∧ wM_in (fun r41 s40 => (r41 = 0 → wM_word_J112 post s40 x25 x26) ∧ (¬ (r41 = 0) → (((x26 ≤ 999 → vp_in (s40 44 0) 80)) ∧ ∀ v44 : Int32, v44 = (if x26 ≤ 999 then (((10 : Int32) * x26) + (s40 42 (s40 44 0).toNatClampNeg)) - 48 else x26) → (∀ s47 : MS, s47 = up2 s40 44 0 ((s40 44 0) + 1) → wM_word_L37 post n s47 x25 v44)))) σ ((σ 42 (σ 44 0).toNatClampNeg).toInt64) 48 57))
def wM_word_J15 (post : MS → Prop) (σ : MS) (x4 : Int32) : Prop := wM_in (fun r6 s5 => (r6 = 0 → (∀ v14 : Int32, v14 = (if x4 = 115 then 1 else if x4 = 107 then 1 else if x4 = 100 then 1 else if x4 = 110 then 1 else if x4 = 98 then 1 else if x4 = 119 then 1 else 0) → (∀ v18 : Int32, v18 = (if (s5 45 0) = 0 then if v14 = 0 then 1 else 0 else 1) → (∀ s20 : MS, s20 = up2 s5 45 0 v18 → (¬ ((s20 45 0) = 0) → post s20) ∧ ((s20 45 0) = 0 → (∀ s22 : MS, s22 = up2 s20 44 0 ((s20 44 0) + 1) → wM_emits (fun s23 => post s23) s22 1 x4)))))) ∧ (¬ (r6 = 0) → (∀ x24 : Int32, x24 = s5 44 0 → ∃ n48, wM_word_L37 post n48 s5 x24 0))) σ x4.toInt64 48 57
def wM_word (post : MS → Prop) (σ : MS) : Prop := ((σ 45 0) = 0 → wM_next (fun r3 s2 => wM_word_J15 post s2 r3) σ) ∧ (¬ ((σ 45 0) = 0) → wM_word_J15 post σ 0)
abbrev rM_word : Room := { frames := 1, cells := 0, slots := 0, locals := 25 }
set_option maxHeartbeats 4000000 in
set_option maxRecDepth 100000 in
theorem kM_word_J112 {p : Program} {l : Launch} {e : Env} {s : State} {m : MethodId} {args : Array Value} {below : List Frame} {meth : Method} {c : Code} {g : MG} {post : MS → Prop} (F : gFx p s m c meth args cX3_word 4 RX3 none (mD g) (mcl g) (mty g)) (hO : MOK g) : ∀ (σ : MS) (x28 : Int32) (x29 : Int32) (H : Heap) (locs : List Loc) (ls : Array Slot), gSt (MWd g) (MA g) s σ H locs → lv_has ls 4 [(0, .ref (mad g 62)), (2, .int x28), (3, .int x29)] → wM_word_J112 post σ x28 x29 → W p l e rM_word s m args below meth c H locs 0 0 (MQ below (va_Qv post (gB (MWd g)) (MA g)) args s 0 0 (MA g)) (F0 m 112 ls []) := by
  have hx := F.hx
  have hb := F.hb
  have hts := F.1.2.2.2.2
  have hown := F.1.2.2.2.1
  intro σ x28 x29 H locs ls hS hl h
  rw [wM_word_J112] at h
  refine lv_aload_n hx hb dX3_word_112 rfl (lv_at hl 0 rfl) ?_
  refine lv_iload_n hx hb dX3_word_113 rfl (lv_at hl 2 rfl) ?_
  refine lv_sipush (v := 999) hx hb dX3_word_114 (by decide) ?_
  refine gcut (P := ∀ (v31 : Int32) (H : Heap) (locs : List Loc) (ls : Array Slot), v31 = (if x29 ≤ 999 then 0 else 1) → gSt (MWd g) (MA g) s σ H locs → lv_has ls 4 [(0, .ref (mad g 62)), (2, .int x28), (3, .int x29)] → W p l e rM_word s m args below meth c H locs 0 0 (MQ below (va_Qv post (gB (MWd g)) (MA g)) args s 0 0 (MA g)) (F0 m 125 ls [.int v31, .ref (mad g 62)])) (fun v31 H locs ls ev31 hS hl => ?_) (fun J32 => ?_)
  · have h := h v31 ev31
    refine m_putz F hO hS 45 (by decide) rfl q1442 rfl (by decide +kernel) (by rw [ev31]; exact (bz_ite bz0 bz1)) dX3_word_125 (fun s33 es33 H locs hS => ?_)
    have h := h s33 es33
    refine lv_aload_n hx hb dX3_word_128 rfl (lv_at hl 0 rfl) ?_
    refine lv_aload_n hx hb dX3_word_129 rfl (lv_at hl 0 rfl) ?_
    refine m_geti F hO hS 45 (by decide) rfl q1442 dX3_word_130 ?_
    refine gcut (P := ∀ (v35 : Int32) (H : Heap) (locs : List Loc) (ls : Array Slot), v35 = (if (s33 45 0) = 0 then s33 44 0 else x28) → gSt (MWd g) (MA g) s s33 H locs → lv_has ls 4 [(0, .ref (mad g 62)), (3, .int x29)] → W p l e rM_word s m args below meth c H locs 0 0 (MQ below (va_Qv post (gB (MWd g)) (MA g)) args s 0 0 (MA g)) (F0 m 144 ls [.int v35, .ref (mad g 62)])) (fun v35 H locs ls ev35 hS hl => ?_) (fun J36 => ?_)
    · have h := h v35 ev35
      refine m_puti F hO hS 44 (by decide) rfl q1441 rfl (by decide +kernel) dX3_word_144 (fun s37 es37 H locs hS => ?_)
      have h := h s37 es37
      refine lv_aload_n hx hb dX3_word_147 rfl (lv_at hl 0 rfl) ?_
      refine lv_iconst (v := 0) hx hb dX3_word_148 (by decide) ?_
      refine lv_iload_n hx hb dX3_word_149 rfl (lv_at hl 1 rfl) ?_
      refine gw_callVv (As := [.int 0, .int x29]) (rest := []) F hS (tM_emits l g hO s37 0 x29 _ h) (cwV 2 hts (lw_V q1857 q1859 qs70 q90 q1860) rfl rfl rfl (by decide +kernel) ⟨Nat.le_of_ble_eq_true rfl, Nat.le_of_ble_eq_true rfl⟩) (m_rec F hO hS) rfl hl.1 rfl (Nat.le_of_ble_eq_true rfl) dX3_word_150 ⟨Nat.le_refl 0, Nat.le_refl 0⟩ (fun s38 H locs h hS => ?_)
      exact gw_vret F hS h dX3_word_153
    · refine lv_if_eq (tgt := 140) hx hb dX3_word_133 (by decide) (fun c34 => ?_) (fun c34 => ?_)
      · refine lv_aload_n hx hb dX3_word_140 rfl (lv_at hl 0 rfl) ?_
        refine m_geti F hO hS 44 (by decide) rfl q1441 dX3_word_141 ?_
        exact J36 _ H locs ls (by first | with_reducible rfl | ((try rw [if_pos c34]); done)) hS (lv_sub hl [0, 2] rfl)
      · refine lv_iload_n hx hb dX3_word_136 rfl (lv_at hl 1 rfl) ?_
        refine lv_goto (tgt := 144) hx hb dX3_word_137 (by decide) ?_
        exact J36 _ H locs ls (by first | with_reducible rfl | ((try rw [if_neg c34]); done)) hS (lv_sub hl [0, 2] rfl)
  · refine lv_icmp_le (tgt := 124) hx hb dX3_word_117 (by decide) (fun c30 => ?_) (fun c30 => ?_)
    · refine lv_iconst (v := 0) hx hb dX3_word_124 (by decide) ?_
      exact J32 _ H locs ls (by first | with_reducible rfl | ((try rw [if_pos c30]); done)) hS (lv_sub hl [0, 1, 2] rfl)
    · refine lv_iconst (v := 1) hx hb dX3_word_120 (by decide) ?_
      refine lv_goto (tgt := 125) hx hb dX3_word_121 (by decide) ?_
      exact J32 _ H locs ls (by first | with_reducible rfl | ((try rw [if_neg c30]); done)) hS (lv_sub hl [0, 1, 2] rfl)
set_option maxHeartbeats 4000000 in
set_option maxRecDepth 100000 in
theorem kM_word_L37 {p : Program} {l : Launch} {e : Env} {s : State} {m : MethodId} {args : Array Value} {below : List Frame} {meth : Method} {c : Code} {g : MG} {post : MS → Prop} (F : gFx p s m c meth args cX3_word 4 RX3 none (mD g) (mcl g) (mty g)) (hO : MOK g) : ∀ (n : Nat) (σ : MS) (x25 : Int32) (x26 : Int32) (H : Heap) (locs : List Loc) (ls : Array Slot), gSt (MWd g) (MA g) s σ H locs → lv_has ls 4 [(0, .ref (mad g 62)), (2, .int x25), (3, .int x26)] → wM_word_L37 post n σ x25 x26 → W p l e rM_word s m args below meth c H locs 0 0 (MQ below (va_Qv post (gB (MWd g)) (MA g)) args s 0 0 (MA g)) (F0 m 37 ls []) := by
  have hx := F.hx
  have hb := F.hb
  have hts := F.1.2.2.2.2
  have hown := F.1.2.2.2.1
  intro n
  induction n with
  | zero =>
    intro σ x25 x26 H locs ls hS hl h
    exact False.elim h
  | succ n ih =>
    intro σ x25 x26 H locs ls hS hl h
    rw [wM_word_L37] at h
    refine lv_aload_n hx hb dX3_word_37 rfl (lv_at hl 0 rfl) ?_
    refine m_geti F hO hS 44 (by decide) rfl q1441 dX3_word_38 ?_
    refine lv_aload_n hx hb dX3_word_41 rfl (lv_at hl 0 rfl) ?_
    refine m_geti F hO hS 43 (by decide) rfl q1440 dX3_word_42 ?_
    refine lv_icmp_ge (tgt := 112) hx hb dX3_word_45 (by decide) (fun c27 => ?_) (fun c27 => ?_)
    · have h := h.1 c27
      exact (kM_word_J112 F hO) σ x25 x26 H locs ls hS (lv_sub hl [0, 1, 2] rfl) h
    · have h := h.2 c27
      refine lv_aload_n hx hb dX3_word_48 rfl (lv_at hl 0 rfl) ?_
      refine m_geta F hO hS 42 (by decide) rfl q1439 dX3_word_49 ?_
      refine lv_aload_n hx hb dX3_word_52 rfl (lv_at hl 0 rfl) ?_
      refine m_geti F hO hS 44 (by decide) rfl q1441 dX3_word_53 ?_
      obtain ⟨b39, h⟩ := h
      refine m_iald F hS 42 35 rfl rfl b39 dX3_word_56 ?_
      refine lv_i2l hx hb dX3_word_57 rfl ?_
      refine lv_ldc2 (v := 48) hx hb hown (hts _ q1834) dX3_word_58 ?_
      refine lv_ldc2 (v := 57) hx hb hown (hts _ q1856) dX3_word_61 ?_
      refine gw_callSi (As := [.long ((σ 42 (σ 44 0).toNatClampNeg).toInt64), .long 48, .long 57]) (rest := []) F hS (tM_in l g hO σ ((σ 42 (σ 44 0).toNatClampNeg).toInt64) 48 57 _ h) (va_cwS 3 hts (lw_S q1593 q1594 q90 q1595) rfl rfl rfl (by decide +kernel) ⟨Nat.le_of_ble_eq_true rfl, Nat.le_of_ble_eq_true rfl⟩) rfl hl.1 rfl (Nat.le_of_ble_eq_true rfl) dX3_word_64 ⟨Nat.le_refl 0, Nat.le_refl 0⟩ (fun r41 s40 H locs h hS => ?_)
      obtain ⟨zr41, h⟩ := h
      refine lv_if_eq (tgt := 112) hx hb dX3_word_67 (by decide) (fun c42 => ?_) (fun c42 => ?_)
      · have h := h.1 c42
        exact (kM_word_J112 F hO) s40 x25 x26 H locs ls hS (lv_sub hl [0, 1, 2] rfl) h
      · have h := h.2 c42
        refine lv_iload_n hx hb dX3_word_70 rfl (lv_at hl 2 rfl) ?_
        refine lv_sipush (v := 999) hx hb dX3_word_71 (by decide) ?_
        obtain ⟨b45, h⟩ := h
        refine gcut (P := ∀ (v44 : Int32) (H : Heap) (locs : List Loc) (ls : Array Slot), v44 = (if x26 ≤ 999 then (((10 : Int32) * x26) + (s40 42 (s40 44 0).toNatClampNeg)) - 48 else x26) → gSt (MWd g) (MA g) s s40 H locs → lv_has ls 4 [(0, .ref (mad g 62)), (2, .int x25)] → W p l e rM_word s m args below meth c H locs 0 0 (MQ below (va_Qv post (gB (MWd g)) (MA g)) args s 0 0 (MA g)) (F0 m 98 ls [.int v44])) (fun v44 H locs ls ev44 hS hl => ?_) (fun J46 => ?_)
        · have h := h v44 ev44
          refine lv_istore_n (lv' := [(3, .int v44), (0, .ref (mad g 62)), (2, .int x25)]) hx hb dX3_word_98 rfl hl (by decide) rfl (fun ls hl => ?_)
          refine lv_aload_n hx hb dX3_word_99 rfl (lv_at hl 1 rfl) ?_
          refine lv_dup hx hb dX3_word_100 rfl ?_
          refine m_geti F hO hS 44 (by decide) rfl q1441 dX3_word_101 ?_
          refine lv_iconst (v := 1) hx hb dX3_word_104 (by decide) ?_
          refine lv_iadd hx hb dX3_word_105 ?_
          refine m_puti F hO hS 44 (by decide) rfl q1441 rfl (by decide +kernel) dX3_word_106 (fun s47 es47 H locs hS => ?_)
          have h := h s47 es47
          refine lv_goto (tgt := 37) hx hb dX3_word_109 (by decide) ?_
          exact ih s47 x25 v44 H locs ls hS (lv_sub hl [1, 2, 0] rfl) h
        · refine lv_icmp_le (tgt := 81) hx hb dX3_word_74 (by decide) (fun c43 => ?_) (fun c43 => ?_)
          · refine lv_bipush (v := 10) hx hb dX3_word_81 (by decide) ?_
            refine lv_iload_n hx hb dX3_word_83 rfl (lv_at hl 2 rfl) ?_
            refine lv_imul hx hb dX3_word_84 ?_
            refine lv_aload_n hx hb dX3_word_85 rfl (lv_at hl 0 rfl) ?_
            refine m_geta F hO hS 42 (by decide) rfl q1439 dX3_word_86 ?_
            refine lv_aload_n hx hb dX3_word_89 rfl (lv_at hl 0 rfl) ?_
            refine m_geti F hO hS 44 (by decide) rfl q1441 dX3_word_90 ?_
            refine m_iald F hS 42 35 rfl rfl ((b45 c43)) dX3_word_93 ?_
            refine lv_iadd hx hb dX3_word_94 ?_
            refine lv_bipush (v := 48) hx hb dX3_word_95 (by decide) ?_
            refine lv_isub hx hb dX3_word_97 ?_
            exact J46 _ H locs ls (by first | with_reducible rfl | ((try rw [if_pos c43]); done)) hS (lv_sub hl [0, 1] rfl)
          · refine lv_iload_n hx hb dX3_word_77 rfl (lv_at hl 2 rfl) ?_
            refine lv_goto (tgt := 98) hx hb dX3_word_78 (by decide) ?_
            exact J46 _ H locs ls (by first | with_reducible rfl | ((try rw [if_neg c43]); done)) hS (lv_sub hl [0, 1] rfl)
set_option maxHeartbeats 4000000 in
set_option maxRecDepth 100000 in
theorem kM_word_J15 {p : Program} {l : Launch} {e : Env} {s : State} {m : MethodId} {args : Array Value} {below : List Frame} {meth : Method} {c : Code} {g : MG} {post : MS → Prop} (F : gFx p s m c meth args cX3_word 4 RX3 none (mD g) (mcl g) (mty g)) (hO : MOK g) : ∀ (σ : MS) (x4 : Int32) (H : Heap) (locs : List Loc) (ls : Array Slot), gSt (MWd g) (MA g) s σ H locs → lv_has ls 4 [(0, .ref (mad g 62))] → wM_word_J15 post σ x4 → W p l e rM_word s m args below meth c H locs 0 0 (MQ below (va_Qv post (gB (MWd g)) (MA g)) args s 0 0 (MA g)) (F0 m 15 ls [.int x4]) := by
  have hx := F.hx
  have hb := F.hb
  have hts := F.1.2.2.2.2
  have hown := F.1.2.2.2.1
  intro σ x4 H locs ls hS hl h
  rw [wM_word_J15] at h
  refine lv_istore_n (lv' := [(1, .int x4), (0, .ref (mad g 62))]) hx hb dX3_word_15 rfl hl (by decide) rfl (fun ls hl => ?_)
  refine lv_iload_n hx hb dX3_word_16 rfl (lv_at hl 0 rfl) ?_
  refine lv_i2l hx hb dX3_word_17 rfl ?_
  refine lv_ldc2 (v := 48) hx hb hown (hts _ q1834) dX3_word_18 ?_
  refine lv_ldc2 (v := 57) hx hb hown (hts _ q1856) dX3_word_21 ?_
  refine gw_callSi (As := [.long x4.toInt64, .long 48, .long 57]) (rest := []) F hS (tM_in l g hO σ x4.toInt64 48 57 _ h) (va_cwS 3 hts (lw_S q1593 q1594 q90 q1595) rfl rfl rfl (by decide +kernel) ⟨Nat.le_of_ble_eq_true rfl, Nat.le_of_ble_eq_true rfl⟩) rfl hl.1 rfl (Nat.le_of_ble_eq_true rfl) dX3_word_24 ⟨Nat.le_refl 0, Nat.le_refl 0⟩ (fun r6 s5 H locs h hS => ?_)
  obtain ⟨zr6, h⟩ := h
  refine lv_if_eq (tgt := 154) hx hb dX3_word_27 (by decide) (fun c7 => ?_) (fun c7 => ?_)
  · have h := h.1 c7
    refine lv_iload_n hx hb dX3_word_154 rfl (lv_at hl 0 rfl) ?_
    refine lv_bipush (v := 115) hx hb dX3_word_155 (by decide) ?_
    refine gcut (P := ∀ (v14 : Int32) (H : Heap) (locs : List Loc) (ls : Array Slot), v14 = (if x4 = 115 then 1 else if x4 = 107 then 1 else if x4 = 100 then 1 else if x4 = 110 then 1 else if x4 = 98 then 1 else if x4 = 119 then 1 else 0) → gSt (MWd g) (MA g) s s5 H locs → lv_has ls 4 [(0, .ref (mad g 62)), (1, .int x4)] → W p l e rM_word s m args below meth c H locs 0 0 (MQ below (va_Qv post (gB (MWd g)) (MA g)) args s 0 0 (MA g)) (F0 m 195 ls [.int v14])) (fun v14 H locs ls ev14 hS hl => ?_) (fun J15 => ?_)
    · have h := h v14 ev14
      refine lv_istore_n (lv' := [(2, .int v14), (0, .ref (mad g 62)), (1, .int x4)]) hx hb dX3_word_195 rfl hl (by decide) rfl (fun ls hl => ?_)
      refine lv_aload_n hx hb dX3_word_196 rfl (lv_at hl 1 rfl) ?_
      refine lv_aload_n hx hb dX3_word_197 rfl (lv_at hl 1 rfl) ?_
      refine m_geti F hO hS 45 (by decide) rfl q1442 dX3_word_198 ?_
      refine gcut (P := ∀ (v18 : Int32) (H : Heap) (locs : List Loc) (ls : Array Slot), v18 = (if (s5 45 0) = 0 then if v14 = 0 then 1 else 0 else 1) → gSt (MWd g) (MA g) s s5 H locs → lv_has ls 4 [(0, .ref (mad g 62)), (1, .int x4)] → W p l e rM_word s m args below meth c H locs 0 0 (MQ below (va_Qv post (gB (MWd g)) (MA g)) args s 0 0 (MA g)) (F0 m 213 ls [.int v18, .ref (mad g 62)])) (fun v18 H locs ls ev18 hS hl => ?_) (fun J19 => ?_)
      · have h := h v18 ev18
        refine m_putz F hO hS 45 (by decide) rfl q1442 rfl (by decide +kernel) (by rw [ev18]; exact (bz_ite (bz_ite bz1 bz0) bz1)) dX3_word_213 (fun s20 es20 H locs hS => ?_)
        have h := h s20 es20
        refine lv_aload_n hx hb dX3_word_216 rfl (lv_at hl 0 rfl) ?_
        refine m_geti F hO hS 45 (by decide) rfl q1442 dX3_word_217 ?_
        refine lv_if_ne (tgt := 239) hx hb dX3_word_220 (by decide) (fun c21 => ?_) (fun c21 => ?_)
        · have h := h.1 c21
          exact gw_vret F hS h dX3_word_239
        · have h := h.2 c21
          refine lv_aload_n hx hb dX3_word_223 rfl (lv_at hl 0 rfl) ?_
          refine lv_dup hx hb dX3_word_224 rfl ?_
          refine m_geti F hO hS 44 (by decide) rfl q1441 dX3_word_225 ?_
          refine lv_iconst (v := 1) hx hb dX3_word_228 (by decide) ?_
          refine lv_iadd hx hb dX3_word_229 ?_
          refine m_puti F hO hS 44 (by decide) rfl q1441 rfl (by decide +kernel) dX3_word_230 (fun s22 es22 H locs hS => ?_)
          have h := h s22 es22
          refine lv_aload_n hx hb dX3_word_233 rfl (lv_at hl 0 rfl) ?_
          refine lv_iconst (v := 1) hx hb dX3_word_234 (by decide) ?_
          refine lv_iload_n hx hb dX3_word_235 rfl (lv_at hl 1 rfl) ?_
          refine gw_callVv (As := [.int 1, .int x4]) (rest := []) F hS (tM_emits l g hO s22 1 x4 _ h) (cwV 2 hts (lw_V q1857 q1859 qs70 q90 q1860) rfl rfl rfl (by decide +kernel) ⟨Nat.le_of_ble_eq_true rfl, Nat.le_of_ble_eq_true rfl⟩) (m_rec F hO hS) rfl hl.1 rfl (Nat.le_of_ble_eq_true rfl) dX3_word_236 ⟨Nat.le_refl 0, Nat.le_refl 0⟩ (fun s23 H locs h hS => ?_)
          exact gw_vret F hS h dX3_word_239
      · refine lv_if_ne (tgt := 208) hx hb dX3_word_201 (by decide) (fun c16 => ?_) (fun c16 => ?_)
        · refine lv_iconst (v := 1) hx hb dX3_word_208 (by decide) ?_
          refine lv_goto (tgt := 213) hx hb dX3_word_209 (by decide) ?_
          exact J19 _ H locs ls (by first | with_reducible rfl | ((try rw [if_neg c16]); done)) hS (lv_sub hl [1, 2] rfl)
        · refine lv_iload_n hx hb dX3_word_204 rfl (lv_at hl 0 rfl) ?_
          refine lv_if_ne (tgt := 212) hx hb dX3_word_205 (by decide) (fun c17 => ?_) (fun c17 => ?_)
          · refine lv_iconst (v := 0) hx hb dX3_word_212 (by decide) ?_
            exact J19 _ H locs ls (by first | with_reducible rfl | ((try rw [if_pos c16]); (try rw [if_neg c17]); done)) hS (lv_sub hl [1, 2] rfl)
          · refine lv_iconst (v := 1) hx hb dX3_word_208 (by decide) ?_
            refine lv_goto (tgt := 213) hx hb dX3_word_209 (by decide) ?_
            exact J19 _ H locs ls (by first | with_reducible rfl | ((try rw [if_pos c16]); (try rw [if_pos c17]); done)) hS (lv_sub hl [1, 2] rfl)
    · refine lv_icmp_eq (tgt := 190) hx hb dX3_word_157 (by decide) (fun c8 => ?_) (fun c8 => ?_)
      · refine lv_iconst (v := 1) hx hb dX3_word_190 (by decide) ?_
        refine lv_goto (tgt := 195) hx hb dX3_word_191 (by decide) ?_
        exact J15 _ H locs ls (by first | with_reducible rfl | ((try rw [if_pos c8]); done)) hS (lv_sub hl [1, 0] rfl)
      · refine lv_iload_n hx hb dX3_word_160 rfl (lv_at hl 0 rfl) ?_
        refine lv_bipush (v := 107) hx hb dX3_word_161 (by decide) ?_
        refine lv_icmp_eq (tgt := 190) hx hb dX3_word_163 (by decide) (fun c9 => ?_) (fun c9 => ?_)
        · refine lv_iconst (v := 1) hx hb dX3_word_190 (by decide) ?_
          refine lv_goto (tgt := 195) hx hb dX3_word_191 (by decide) ?_
          exact J15 _ H locs ls (by first | with_reducible rfl | ((try rw [if_neg c8]); (try rw [if_pos c9]); done)) hS (lv_sub hl [1, 0] rfl)
        · refine lv_iload_n hx hb dX3_word_166 rfl (lv_at hl 0 rfl) ?_
          refine lv_bipush (v := 100) hx hb dX3_word_167 (by decide) ?_
          refine lv_icmp_eq (tgt := 190) hx hb dX3_word_169 (by decide) (fun c10 => ?_) (fun c10 => ?_)
          · refine lv_iconst (v := 1) hx hb dX3_word_190 (by decide) ?_
            refine lv_goto (tgt := 195) hx hb dX3_word_191 (by decide) ?_
            exact J15 _ H locs ls (by first | with_reducible rfl | ((try rw [if_neg c8]); (try rw [if_neg c9]); (try rw [if_pos c10]); done)) hS (lv_sub hl [1, 0] rfl)
          · refine lv_iload_n hx hb dX3_word_172 rfl (lv_at hl 0 rfl) ?_
            refine lv_bipush (v := 110) hx hb dX3_word_173 (by decide) ?_
            refine lv_icmp_eq (tgt := 190) hx hb dX3_word_175 (by decide) (fun c11 => ?_) (fun c11 => ?_)
            · refine lv_iconst (v := 1) hx hb dX3_word_190 (by decide) ?_
              refine lv_goto (tgt := 195) hx hb dX3_word_191 (by decide) ?_
              exact J15 _ H locs ls (by first | with_reducible rfl | ((try rw [if_neg c8]); (try rw [if_neg c9]); (try rw [if_neg c10]); (try rw [if_pos c11]); done)) hS (lv_sub hl [1, 0] rfl)
            · refine lv_iload_n hx hb dX3_word_178 rfl (lv_at hl 0 rfl) ?_
              refine lv_bipush (v := 98) hx hb dX3_word_179 (by decide) ?_
              refine lv_icmp_eq (tgt := 190) hx hb dX3_word_181 (by decide) (fun c12 => ?_) (fun c12 => ?_)
              · refine lv_iconst (v := 1) hx hb dX3_word_190 (by decide) ?_
                refine lv_goto (tgt := 195) hx hb dX3_word_191 (by decide) ?_
                exact J15 _ H locs ls (by first | with_reducible rfl | ((try rw [if_neg c8]); (try rw [if_neg c9]); (try rw [if_neg c10]); (try rw [if_neg c11]); (try rw [if_pos c12]); done)) hS (lv_sub hl [1, 0] rfl)
              · refine lv_iload_n hx hb dX3_word_184 rfl (lv_at hl 0 rfl) ?_
                refine lv_bipush (v := 119) hx hb dX3_word_185 (by decide) ?_
                refine lv_icmp_ne (tgt := 194) hx hb dX3_word_187 (by decide) (fun c13 => ?_) (fun c13 => ?_)
                · refine lv_iconst (v := 0) hx hb dX3_word_194 (by decide) ?_
                  exact J15 _ H locs ls (by first | with_reducible rfl | ((try rw [if_neg c8]); (try rw [if_neg c9]); (try rw [if_neg c10]); (try rw [if_neg c11]); (try rw [if_neg c12]); (try rw [if_neg c13]); done)) hS (lv_sub hl [1, 0] rfl)
                · refine lv_iconst (v := 1) hx hb dX3_word_190 (by decide) ?_
                  refine lv_goto (tgt := 195) hx hb dX3_word_191 (by decide) ?_
                  exact J15 _ H locs ls (by first | with_reducible rfl | ((try rw [if_neg c8]); (try rw [if_neg c9]); (try rw [if_neg c10]); (try rw [if_neg c11]); (try rw [if_neg c12]); (try rw [if_pos c13]); done)) hS (lv_sub hl [1, 0] rfl)
  · have h := h.2 c7
    refine lv_aload_n hx hb dX3_word_30 rfl (lv_at hl 1 rfl) ?_
    refine m_geti F hO hS 44 (by decide) rfl q1441 dX3_word_31 ?_
    refine lv_topi (fun x24 ex24 => ?_)
    have h := h x24 ex24
    refine lv_istore_n (lv' := [(2, .int x24), (1, .int x4), (0, .ref (mad g 62))]) hx hb dX3_word_34 rfl hl (by decide) rfl (fun ls hl => ?_)
    refine lv_iconst (v := 0) hx hb dX3_word_35 (by decide) ?_
    refine lv_istore_n (lv' := [(3, .int 0), (2, .int x24), (1, .int x4), (0, .ref (mad g 62))]) hx hb dX3_word_36 rfl hl (by decide) rfl (fun ls hl => ?_)
    obtain ⟨n48, h⟩ := h
    exact (kM_word_L37 F hO n48) s5 x24 0 H locs ls hS (lv_sub hl [3, 1, 0] rfl) h
set_option maxHeartbeats 4000000 in
set_option maxRecDepth 100000 in
theorem kM_word {p : Program} {l : Launch} {e : Env} {s : State} {m : MethodId} {args : Array Value} {below : List Frame} {meth : Method} {c : Code} {g : MG} {post : MS → Prop} (F : gFx p s m c meth args cX3_word 4 RX3 none (mD g) (mcl g) (mty g)) (hO : MOK g) (σ : MS) (H : Heap) (locs : List Loc) (ls : Array Slot) (hS : gSt (MWd g) (MA g) s σ H locs) (hl : lv_has ls 4 [(0, .ref (mad g 62))]) (h : wM_word post σ) : W p l e rM_word s m args below meth c H locs 0 0 (MQ below (va_Qv post (gB (MWd g)) (MA g)) args s 0 0 (MA g)) (F0 m 0 ls []) := by
  have hx := F.hx
  have hb := F.hb
  have hts := F.1.2.2.2.2
  have hown := F.1.2.2.2.1
  rw [wM_word] at h
  refine lv_aload_n hx hb dX3_word_0 rfl (lv_at hl 0 rfl) ?_
  refine m_geti F hO hS 45 (by decide) rfl q1442 dX3_word_1 ?_
  refine lv_if_eq (tgt := 11) hx hb dX3_word_4 (by decide) (fun c1 => ?_) (fun c1 => ?_)
  · have h := h.1 c1
    refine lv_aload_n hx hb dX3_word_11 rfl (lv_at hl 0 rfl) ?_
    refine gw_callVi (As := []) (rest := []) F hS (tM_next l g hO σ _ h) (cwV 0 hts (lw_V q1830 q1832 qs64 q90 q1833) rfl rfl rfl (by decide +kernel) ⟨Nat.le_of_ble_eq_true rfl, Nat.le_of_ble_eq_true rfl⟩) (m_rec F hO hS) rfl hl.1 rfl (Nat.le_of_ble_eq_true rfl) dX3_word_12 ⟨Nat.le_refl 0, Nat.le_refl 0⟩ (fun r3 s2 H locs h hS => ?_)
    exact (kM_word_J15 F hO) s2 r3 H locs ls hS (lv_sub hl [0] rfl) h
  · have h := h.2 c1
    refine lv_iconst (v := 0) hx hb dX3_word_7 (by decide) ?_
    refine lv_goto (tgt := 15) hx hb dX3_word_8 (by decide) ?_
    exact (kM_word_J15 F hO) σ 0 H locs ls hS (lv_sub hl [0] rfl) h
set_option maxHeartbeats 4000000 in
set_option maxRecDepth 100000 in
theorem tM_word (l : Launch) (g : MG) (hO : MOK g) (σ : MS) (post : MS → Prop) (h : wM_word post σ) : Met l yX3_word (ws_ yX3_word cX3_word 4 none) rM_word (va_Pc [.ref (mad g 62)] (gPre (MWd g) (mD g) (mcl g) (mty g) σ)) (va_Qv post (gB (MWd g)) (MA g)) 0 0 (MA g) := by
  refine Met.ofW (cc := cX3_word) (maxL := 4) (ret := none) (by decide) rfl ?_
  intro p e s m args below meth c s₁ B hml hv
  obtain ⟨rfl, hW, hK⟩ := hv
  have hts := atoms_spec (ws := (ws_ yX3_word cX3_word 4 none)) B.pre
  have hts : ∀ w ∈ lw_all, w.before _ s = true := fun w h => hts w (List.mem_cons_of_mem _ h)
  have hl := lv_entry ([.ref (mad g 62)]) (n := 4) (Nat.le_of_ble_eq_true rfl)
  rw [lg_entry_eq]
  generalize (lg_sl ([.ref (mad g 62)]) ++ List.replicate (4 - (lg_sl ([.ref (mad g 62)])).length) Slot.unset).toArray = ls at hl ⊢
  exact kM_word ⟨⟨B.exec, B.bytes, hml, findClass_of_methodNamed B.named, hts⟩, hK, B.returns, B.notSynchronized⟩ hO σ s.heap [] ls ⟨hW, va_S.rf⟩ hl h
def wM_claim_J19 (post : MS → Prop) (σ : MS) (x5 : Int32) : Prop := (∀ v8 : Int32, v8 = (if x5 = 60 then 2 else if x5 = 62 then 3 else 4) → (∀ v14 : Int32, v14 = (if (σ 45 0) = 0 then if x5 = 60 then 0 else if x5 = 62 then 0 else if x5 = 61 then 0 else 1 else 1) → (∀ s16 : MS, s16 = up2 σ 45 0 v14 → (∀ v18 : Int32, v18 = (if (s16 45 0) = 0 then 1 else 0) → (∀ s20 : MS, s20 = up2 s16 44 0 ((s16 44 0) + v18) → wM_word (fun s21 => (¬ ((s21 45 0) = 0) → post s21) ∧ ((s21 45 0) = 0 → wM_emits (fun s23 => post s23) s21 v8 0)) s20)))))
def wM_claim (post : MS → Prop) (σ : MS) : Prop := wM_word (fun s1 => ((s1 45 0) = 0 → wM_next (fun r4 s3 => wM_claim_J19 post s3 r4) s1) ∧ (¬ ((s1 45 0) = 0) → wM_claim_J19 post s1 0)) σ
abbrev rM_claim : Room := { frames := 2, cells := 0, slots := 0, locals := 48 }
set_option maxHeartbeats 4000000 in
set_option maxRecDepth 100000 in
theorem kM_claim_J19 {p : Program} {l : Launch} {e : Env} {s : State} {m : MethodId} {args : Array Value} {below : List Frame} {meth : Method} {c : Code} {g : MG} {post : MS → Prop} (F : gFx p s m c meth args cX3_claim 3 RX3 none (mD g) (mcl g) (mty g)) (hO : MOK g) : ∀ (σ : MS) (x5 : Int32) (H : Heap) (locs : List Loc) (ls : Array Slot), gSt (MWd g) (MA g) s σ H locs → lv_has ls 3 [(0, .ref (mad g 62))] → wM_claim_J19 post σ x5 → W p l e rM_claim s m args below meth c H locs 0 0 (MQ below (va_Qv post (gB (MWd g)) (MA g)) args s 0 0 (MA g)) (F0 m 19 ls [.int x5]) := by
  have hx := F.hx
  have hb := F.hb
  have hts := F.1.2.2.2.2
  have hown := F.1.2.2.2.1
  intro σ x5 H locs ls hS hl h
  rw [wM_claim_J19] at h
  refine lv_istore_n (lv' := [(1, .int x5), (0, .ref (mad g 62))]) hx hb dX3_claim_19 rfl hl (by decide) rfl (fun ls hl => ?_)
  refine lv_iload_n hx hb dX3_claim_20 rfl (lv_at hl 0 rfl) ?_
  refine lv_bipush (v := 60) hx hb dX3_claim_21 (by decide) ?_
  refine gcut (P := ∀ (v8 : Int32) (H : Heap) (locs : List Loc) (ls : Array Slot), v8 = (if x5 = 60 then 2 else if x5 = 62 then 3 else 4) → gSt (MWd g) (MA g) s σ H locs → lv_has ls 3 [(0, .ref (mad g 62)), (1, .int x5)] → W p l e rM_claim s m args below meth c H locs 0 0 (MQ below (va_Qv post (gB (MWd g)) (MA g)) args s 0 0 (MA g)) (F0 m 41 ls [.int v8])) (fun v8 H locs ls ev8 hS hl => ?_) (fun J9 => ?_)
  · have h := h v8 ev8
    refine lv_istore_n (lv' := [(2, .int v8), (0, .ref (mad g 62)), (1, .int x5)]) hx hb dX3_claim_41 rfl hl (by decide) rfl (fun ls hl => ?_)
    refine lv_aload_n hx hb dX3_claim_42 rfl (lv_at hl 1 rfl) ?_
    refine lv_aload_n hx hb dX3_claim_43 rfl (lv_at hl 1 rfl) ?_
    refine m_geti F hO hS 45 (by decide) rfl q1442 dX3_claim_44 ?_
    refine gcut (P := ∀ (v14 : Int32) (H : Heap) (locs : List Loc) (ls : Array Slot), v14 = (if (σ 45 0) = 0 then if x5 = 60 then 0 else if x5 = 62 then 0 else if x5 = 61 then 0 else 1 else 1) → gSt (MWd g) (MA g) s σ H locs → lv_has ls 3 [(0, .ref (mad g 62)), (2, .int v8)] → W p l e rM_claim s m args below meth c H locs 0 0 (MQ below (va_Qv post (gB (MWd g)) (MA g)) args s 0 0 (MA g)) (F0 m 73 ls [.int v14, .ref (mad g 62)])) (fun v14 H locs ls ev14 hS hl => ?_) (fun J15 => ?_)
    · have h := h v14 ev14
      refine m_putz F hO hS 45 (by decide) rfl q1442 rfl (by decide +kernel) (by rw [ev14]; exact (bz_ite (bz_ite bz0 (bz_ite bz0 (bz_ite bz0 bz1))) bz1)) dX3_claim_73 (fun s16 es16 H locs hS => ?_)
      have h := h s16 es16
      refine lv_aload_n hx hb dX3_claim_76 rfl (lv_at hl 0 rfl) ?_
      refine lv_dup hx hb dX3_claim_77 rfl ?_
      refine m_geti F hO hS 44 (by decide) rfl q1441 dX3_claim_78 ?_
      refine lv_aload_n hx hb dX3_claim_81 rfl (lv_at hl 0 rfl) ?_
      refine m_geti F hO hS 45 (by decide) rfl q1442 dX3_claim_82 ?_
      refine gcut (P := ∀ (v18 : Int32) (H : Heap) (locs : List Loc) (ls : Array Slot), v18 = (if (s16 45 0) = 0 then 1 else 0) → gSt (MWd g) (MA g) s s16 H locs → lv_has ls 3 [(0, .ref (mad g 62)), (2, .int v8)] → W p l e rM_claim s m args below meth c H locs 0 0 (MQ below (va_Qv post (gB (MWd g)) (MA g)) args s 0 0 (MA g)) (F0 m 93 ls [.int v18, .int (s16 44 0), .ref (mad g 62)])) (fun v18 H locs ls ev18 hS hl => ?_) (fun J19 => ?_)
      · have h := h v18 ev18
        refine lv_iadd hx hb dX3_claim_93 ?_
        refine m_puti F hO hS 44 (by decide) rfl q1441 rfl (by decide +kernel) dX3_claim_94 (fun s20 es20 H locs hS => ?_)
        have h := h s20 es20
        refine lv_aload_n hx hb dX3_claim_97 rfl (lv_at hl 0 rfl) ?_
        refine gw_callVv (As := []) (rest := []) F hS (tM_word l g hO s20 _ h) (cwV 0 hts (lw_V q1852 q1854 qs69 q90 q1855) rfl rfl rfl (by decide +kernel) ⟨Nat.le_of_ble_eq_true rfl, Nat.le_of_ble_eq_true rfl⟩) (m_rec F hO hS) rfl hl.1 rfl (Nat.le_of_ble_eq_true rfl) dX3_claim_98 ⟨Nat.le_refl 0, Nat.le_refl 0⟩ (fun s21 H locs h hS => ?_)
        refine lv_aload_n hx hb dX3_claim_101 rfl (lv_at hl 0 rfl) ?_
        refine m_geti F hO hS 45 (by decide) rfl q1442 dX3_claim_102 ?_
        refine lv_if_ne (tgt := 114) hx hb dX3_claim_105 (by decide) (fun c22 => ?_) (fun c22 => ?_)
        · have h := h.1 c22
          exact gw_vret F hS h dX3_claim_114
        · have h := h.2 c22
          refine lv_aload_n hx hb dX3_claim_108 rfl (lv_at hl 0 rfl) ?_
          refine lv_iload_n hx hb dX3_claim_109 rfl (lv_at hl 1 rfl) ?_
          refine lv_iconst (v := 0) hx hb dX3_claim_110 (by decide) ?_
          refine gw_callVv (As := [.int v8, .int 0]) (rest := []) F hS (tM_emits l g hO s21 v8 0 _ h) (cwV 2 hts (lw_V q1857 q1859 qs70 q90 q1860) rfl rfl rfl (by decide +kernel) ⟨Nat.le_of_ble_eq_true rfl, Nat.le_of_ble_eq_true rfl⟩) (m_rec F hO hS) rfl hl.1 rfl (Nat.le_of_ble_eq_true rfl) dX3_claim_111 ⟨Nat.le_refl 0, Nat.le_refl 0⟩ (fun s23 H locs h hS => ?_)
          exact gw_vret F hS h dX3_claim_114
      · refine lv_if_eq (tgt := 92) hx hb dX3_claim_85 (by decide) (fun c17 => ?_) (fun c17 => ?_)
        · refine lv_iconst (v := 1) hx hb dX3_claim_92 (by decide) ?_
          exact J19 _ H locs ls (by first | with_reducible rfl | ((try rw [if_pos c17]); done)) hS (lv_sub hl [0, 1] rfl)
        · refine lv_iconst (v := 0) hx hb dX3_claim_88 (by decide) ?_
          refine lv_goto (tgt := 93) hx hb dX3_claim_89 (by decide) ?_
          exact J19 _ H locs ls (by first | with_reducible rfl | ((try rw [if_neg c17]); done)) hS (lv_sub hl [0, 1] rfl)
    · refine lv_if_ne (tgt := 68) hx hb dX3_claim_47 (by decide) (fun c10 => ?_) (fun c10 => ?_)
      · refine lv_iconst (v := 1) hx hb dX3_claim_68 (by decide) ?_
        refine lv_goto (tgt := 73) hx hb dX3_claim_69 (by decide) ?_
        exact J15 _ H locs ls (by first | with_reducible rfl | ((try rw [if_neg c10]); done)) hS (lv_sub hl [1, 0] rfl)
      · refine lv_iload_n hx hb dX3_claim_50 rfl (lv_at hl 2 rfl) ?_
        refine lv_bipush (v := 60) hx hb dX3_claim_51 (by decide) ?_
        refine lv_icmp_eq (tgt := 72) hx hb dX3_claim_53 (by decide) (fun c11 => ?_) (fun c11 => ?_)
        · refine lv_iconst (v := 0) hx hb dX3_claim_72 (by decide) ?_
          exact J15 _ H locs ls (by first | with_reducible rfl | ((try rw [if_pos c10]); (try rw [if_pos c11]); done)) hS (lv_sub hl [1, 0] rfl)
        · refine lv_iload_n hx hb dX3_claim_56 rfl (lv_at hl 2 rfl) ?_
          refine lv_bipush (v := 62) hx hb dX3_claim_57 (by decide) ?_
          refine lv_icmp_eq (tgt := 72) hx hb dX3_claim_59 (by decide) (fun c12 => ?_) (fun c12 => ?_)
          · refine lv_iconst (v := 0) hx hb dX3_claim_72 (by decide) ?_
            exact J15 _ H locs ls (by first | with_reducible rfl | ((try rw [if_pos c10]); (try rw [if_neg c11]); (try rw [if_pos c12]); done)) hS (lv_sub hl [1, 0] rfl)
          · refine lv_iload_n hx hb dX3_claim_62 rfl (lv_at hl 2 rfl) ?_
            refine lv_bipush (v := 61) hx hb dX3_claim_63 (by decide) ?_
            refine lv_icmp_eq (tgt := 72) hx hb dX3_claim_65 (by decide) (fun c13 => ?_) (fun c13 => ?_)
            · refine lv_iconst (v := 0) hx hb dX3_claim_72 (by decide) ?_
              exact J15 _ H locs ls (by first | with_reducible rfl | ((try rw [if_pos c10]); (try rw [if_neg c11]); (try rw [if_neg c12]); (try rw [if_pos c13]); done)) hS (lv_sub hl [1, 0] rfl)
            · refine lv_iconst (v := 1) hx hb dX3_claim_68 (by decide) ?_
              refine lv_goto (tgt := 73) hx hb dX3_claim_69 (by decide) ?_
              exact J15 _ H locs ls (by first | with_reducible rfl | ((try rw [if_pos c10]); (try rw [if_neg c11]); (try rw [if_neg c12]); (try rw [if_neg c13]); done)) hS (lv_sub hl [1, 0] rfl)
  · refine lv_icmp_ne (tgt := 30) hx hb dX3_claim_23 (by decide) (fun c6 => ?_) (fun c6 => ?_)
    · refine lv_iload_n hx hb dX3_claim_30 rfl (lv_at hl 0 rfl) ?_
      refine lv_bipush (v := 62) hx hb dX3_claim_31 (by decide) ?_
      refine lv_icmp_ne (tgt := 40) hx hb dX3_claim_33 (by decide) (fun c7 => ?_) (fun c7 => ?_)
      · refine lv_iconst (v := 4) hx hb dX3_claim_40 (by decide) ?_
        exact J9 _ H locs ls (by first | with_reducible rfl | ((try rw [if_neg c6]); (try rw [if_neg c7]); done)) hS (lv_sub hl [1, 0] rfl)
      · refine lv_iconst (v := 3) hx hb dX3_claim_36 (by decide) ?_
        refine lv_goto (tgt := 41) hx hb dX3_claim_37 (by decide) ?_
        exact J9 _ H locs ls (by first | with_reducible rfl | ((try rw [if_neg c6]); (try rw [if_pos c7]); done)) hS (lv_sub hl [1, 0] rfl)
    · refine lv_iconst (v := 2) hx hb dX3_claim_26 (by decide) ?_
      refine lv_goto (tgt := 41) hx hb dX3_claim_27 (by decide) ?_
      exact J9 _ H locs ls (by first | with_reducible rfl | ((try rw [if_pos c6]); done)) hS (lv_sub hl [1, 0] rfl)
set_option maxHeartbeats 4000000 in
set_option maxRecDepth 100000 in
theorem kM_claim {p : Program} {l : Launch} {e : Env} {s : State} {m : MethodId} {args : Array Value} {below : List Frame} {meth : Method} {c : Code} {g : MG} {post : MS → Prop} (F : gFx p s m c meth args cX3_claim 3 RX3 none (mD g) (mcl g) (mty g)) (hO : MOK g) (σ : MS) (H : Heap) (locs : List Loc) (ls : Array Slot) (hS : gSt (MWd g) (MA g) s σ H locs) (hl : lv_has ls 3 [(0, .ref (mad g 62))]) (h : wM_claim post σ) : W p l e rM_claim s m args below meth c H locs 0 0 (MQ below (va_Qv post (gB (MWd g)) (MA g)) args s 0 0 (MA g)) (F0 m 0 ls []) := by
  have hx := F.hx
  have hb := F.hb
  have hts := F.1.2.2.2.2
  have hown := F.1.2.2.2.1
  rw [wM_claim] at h
  refine lv_aload_n hx hb dX3_claim_0 rfl (lv_at hl 0 rfl) ?_
  refine gw_callVv (As := []) (rest := []) F hS (tM_word l g hO σ _ h) (cwV 0 hts (lw_V q1852 q1854 qs69 q90 q1855) rfl rfl rfl (by decide +kernel) ⟨Nat.le_of_ble_eq_true rfl, Nat.le_of_ble_eq_true rfl⟩) (m_rec F hO hS) rfl hl.1 rfl (Nat.le_of_ble_eq_true rfl) dX3_claim_1 ⟨Nat.le_refl 0, Nat.le_refl 0⟩ (fun s1 H locs h hS => ?_)
  refine lv_aload_n hx hb dX3_claim_4 rfl (lv_at hl 0 rfl) ?_
  refine m_geti F hO hS 45 (by decide) rfl q1442 dX3_claim_5 ?_
  refine lv_if_eq (tgt := 15) hx hb dX3_claim_8 (by decide) (fun c2 => ?_) (fun c2 => ?_)
  · have h := h.1 c2
    refine lv_aload_n hx hb dX3_claim_15 rfl (lv_at hl 0 rfl) ?_
    refine gw_callVi (As := []) (rest := []) F hS (tM_next l g hO s1 _ h) (cwV 0 hts (lw_V q1830 q1832 qs64 q90 q1833) rfl rfl rfl (by decide +kernel) ⟨Nat.le_of_ble_eq_true rfl, Nat.le_of_ble_eq_true rfl⟩) (m_rec F hO hS) rfl hl.1 rfl (Nat.le_of_ble_eq_true rfl) dX3_claim_16 ⟨Nat.le_refl 0, Nat.le_refl 0⟩ (fun r4 s3 H locs h hS => ?_)
    exact (kM_claim_J19 F hO) s3 r4 H locs ls hS (lv_sub hl [0] rfl) h
  · have h := h.2 c2
    refine lv_iconst (v := 0) hx hb dX3_claim_11 (by decide) ?_
    refine lv_goto (tgt := 19) hx hb dX3_claim_12 (by decide) ?_
    exact (kM_claim_J19 F hO) s1 0 H locs ls hS (lv_sub hl [0] rfl) h
set_option maxHeartbeats 4000000 in
set_option maxRecDepth 100000 in
theorem tM_claim (l : Launch) (g : MG) (hO : MOK g) (σ : MS) (post : MS → Prop) (h : wM_claim post σ) : Met l yX3_claim (ws_ yX3_claim cX3_claim 3 none) rM_claim (va_Pc [.ref (mad g 62)] (gPre (MWd g) (mD g) (mcl g) (mty g) σ)) (va_Qv post (gB (MWd g)) (MA g)) 0 0 (MA g) := by
  refine Met.ofW (cc := cX3_claim) (maxL := 3) (ret := none) (by decide) rfl ?_
  intro p e s m args below meth c s₁ B hml hv
  obtain ⟨rfl, hW, hK⟩ := hv
  have hts := atoms_spec (ws := (ws_ yX3_claim cX3_claim 3 none)) B.pre
  have hts : ∀ w ∈ lw_all, w.before _ s = true := fun w h => hts w (List.mem_cons_of_mem _ h)
  have hl := lv_entry ([.ref (mad g 62)]) (n := 3) (Nat.le_of_ble_eq_true rfl)
  rw [lg_entry_eq]
  generalize (lg_sl ([.ref (mad g 62)]) ++ List.replicate (3 - (lg_sl ([.ref (mad g 62)])).length) Slot.unset).toArray = ls at hl ⊢
  exact kM_claim ⟨⟨B.exec, B.bytes, hml, findClass_of_methodNamed B.named, hts⟩, hK, B.returns, B.notSynchronized⟩ hO σ s.heap [] ls ⟨hW, va_S.rf⟩ hl h
def wM_goesOn_J76 (post : Int32 → MS → Prop) (σ : MS) (x9 : Int32) (x10 : Int32) : Prop := (¬ (x10 = 124) → post 0 σ) ∧ (x10 = 124 → (vp_in x9 8 ∧ ∀ s12 : MS, s12 = up2 σ 48 x9.toNatClampNeg 1 → ∀ s14 : MS, s14 = up2 s12 44 0 ((s12 44 0) + 1) → post 1 s14))
def wM_goesOn_J23 (post : Int32 → MS → Prop) (σ : MS) (x3 : Int32) : Prop := wM_next (fun r5 s4 => (¬ (r5 = 38) → (vp_in x3 8 ∧ ((s4 48 x3.toNatClampNeg) = 0 → wM_goesOn_J76 post s4 x3 r5) ∧ (¬ ((s4 48 x3.toNatClampNeg) = 0) → wM_emits (fun s15 => (vp_in x3 8 ∧ ∀ s16 : MS, s16 = up2 s15 48 x3.toNatClampNeg 0 → wM_goesOn_J76 post s16 x3 r5)) s4 7 0))) ∧ (r5 = 38 → (vp_in x3 8 ∧ ∀ s18 : MS, s18 = up2 s4 47 x3.toNatClampNeg 1 → ∀ s20 : MS, s20 = up2 s18 44 0 ((s18 44 0) + 1) → post 1 s20))) σ
def wM_goesOn (post : Int32 → MS → Prop) (σ : MS) (a1 : Int32) : Prop := (vp_in a1 8 ∧ ((σ 47 a1.toNatClampNeg) = 0 → wM_goesOn_J23 post σ a1) ∧ (¬ ((σ 47 a1.toNatClampNeg) = 0) → wM_emits (fun s21 => (vp_in a1 8 ∧ ∀ s22 : MS, s22 = up2 s21 47 a1.toNatClampNeg 0 → wM_goesOn_J23 post s22 a1)) σ 6 0))
abbrev rM_goesOn : Room := { frames := 1, cells := 0, slots := 0, locals := 22 }
set_option maxHeartbeats 4000000 in
set_option maxRecDepth 100000 in
theorem kM_goesOn_J76 {p : Program} {l : Launch} {e : Env} {s : State} {m : MethodId} {args : Array Value} {below : List Frame} {meth : Method} {c : Code} {g : MG} {post : Int32 → MS → Prop} (F : gFx p s m c meth args cX3_goesOn 3 RX3 (some .boolean) (mD g) (mcl g) (mty g)) (hO : MOK g) : ∀ (σ : MS) (x9 : Int32) (x10 : Int32) (H : Heap) (locs : List Loc) (ls : Array Slot), gSt (MWd g) (MA g) s σ H locs → lv_has ls 3 [(0, .ref (mad g 62)), (1, .int x9), (2, .int x10)] → wM_goesOn_J76 post σ x9 x10 → W p l e rM_goesOn s m args below meth c H locs 0 0 (MQ below (va_Qi (zpost post) (gB (MWd g)) (MA g)) args s 0 0 (MA g)) (F0 m 76 ls []) := by
  have hx := F.hx
  have hb := F.hb
  have hts := F.1.2.2.2.2
  have hown := F.1.2.2.2.1
  intro σ x9 x10 H locs ls hS hl h
  rw [wM_goesOn_J76] at h
  refine lv_iload_n hx hb dX3_goesOn_76 rfl (lv_at hl 2 rfl) ?_
  refine lv_bipush (v := 124) hx hb dX3_goesOn_77 (by decide) ?_
  refine lv_icmp_ne (tgt := 101) hx hb dX3_goesOn_79 (by decide) (fun c11 => ?_) (fun c11 => ?_)
  · have h := h.1 c11
    refine lv_iconst (v := 0) hx hb dX3_goesOn_101 (by decide) ?_
    exact gw_zret F hS bz0 h dX3_goesOn_102
  · have h := h.2 c11
    refine lv_aload_n hx hb dX3_goesOn_82 rfl (lv_at hl 0 rfl) ?_
    refine m_geta F hO hS 48 (by decide) rfl q1445 dX3_goesOn_83 ?_
    refine lv_iload_n hx hb dX3_goesOn_86 rfl (lv_at hl 1 rfl) ?_
    refine lv_iconst (v := 1) hx hb dX3_goesOn_87 (by decide) ?_
    obtain ⟨b13, h⟩ := h
    refine m_zast F hO hS 48 37 rfl rfl b13 bz1 dX3_goesOn_88 (fun s12 es12 H locs hS => ?_)
    have h := h s12 es12
    refine lv_aload_n hx hb dX3_goesOn_89 rfl (lv_at hl 0 rfl) ?_
    refine lv_dup hx hb dX3_goesOn_90 rfl ?_
    refine m_geti F hO hS 44 (by decide) rfl q1441 dX3_goesOn_91 ?_
    refine lv_iconst (v := 1) hx hb dX3_goesOn_94 (by decide) ?_
    refine lv_iadd hx hb dX3_goesOn_95 ?_
    refine m_puti F hO hS 44 (by decide) rfl q1441 rfl (by decide +kernel) dX3_goesOn_96 (fun s14 es14 H locs hS => ?_)
    have h := h s14 es14
    refine lv_iconst (v := 1) hx hb dX3_goesOn_99 (by decide) ?_
    exact gw_zret F hS bz1 h dX3_goesOn_100
set_option maxHeartbeats 4000000 in
set_option maxRecDepth 100000 in
theorem kM_goesOn_J23 {p : Program} {l : Launch} {e : Env} {s : State} {m : MethodId} {args : Array Value} {below : List Frame} {meth : Method} {c : Code} {g : MG} {post : Int32 → MS → Prop} (F : gFx p s m c meth args cX3_goesOn 3 RX3 (some .boolean) (mD g) (mcl g) (mty g)) (hO : MOK g) : ∀ (σ : MS) (x3 : Int32) (H : Heap) (locs : List Loc) (ls : Array Slot), gSt (MWd g) (MA g) s σ H locs → lv_has ls 3 [(0, .ref (mad g 62)), (1, .int x3)] → wM_goesOn_J23 post σ x3 → W p l e rM_goesOn s m args below meth c H locs 0 0 (MQ below (va_Qi (zpost post) (gB (MWd g)) (MA g)) args s 0 0 (MA g)) (F0 m 23 ls []) := by
  have hx := F.hx
  have hb := F.hb
  have hts := F.1.2.2.2.2
  have hown := F.1.2.2.2.1
  intro σ x3 H locs ls hS hl h
  rw [wM_goesOn_J23] at h
  refine lv_aload_n hx hb dX3_goesOn_23 rfl (lv_at hl 0 rfl) ?_
  refine gw_callVi (As := []) (rest := []) F hS (tM_next l g hO σ _ h) (cwV 0 hts (lw_V q1830 q1832 qs64 q90 q1833) rfl rfl rfl (by decide +kernel) ⟨Nat.le_of_ble_eq_true rfl, Nat.le_of_ble_eq_true rfl⟩) (m_rec F hO hS) rfl hl.1 rfl (Nat.le_of_ble_eq_true rfl) dX3_goesOn_24 ⟨Nat.le_refl 0, Nat.le_refl 0⟩ (fun r5 s4 H locs h hS => ?_)
  refine lv_istore_n (lv' := [(2, .int r5), (0, .ref (mad g 62)), (1, .int x3)]) hx hb dX3_goesOn_27 rfl hl (by decide) rfl (fun ls hl => ?_)
  refine lv_iload_n hx hb dX3_goesOn_28 rfl (lv_at hl 0 rfl) ?_
  refine lv_bipush (v := 38) hx hb dX3_goesOn_29 (by decide) ?_
  refine lv_icmp_ne (tgt := 53) hx hb dX3_goesOn_31 (by decide) (fun c6 => ?_) (fun c6 => ?_)
  · have h := h.1 c6
    refine lv_aload_n hx hb dX3_goesOn_53 rfl (lv_at hl 1 rfl) ?_
    refine m_geta F hO hS 48 (by decide) rfl q1445 dX3_goesOn_54 ?_
    refine lv_iload_n hx hb dX3_goesOn_57 rfl (lv_at hl 2 rfl) ?_
    obtain ⟨b7, h⟩ := h
    refine m_zald F hS 48 37 rfl rfl b7 dX3_goesOn_58 ?_
    refine lv_if_eq (tgt := 76) hx hb dX3_goesOn_59 (by decide) (fun c8 => ?_) (fun c8 => ?_)
    · have h := h.1 c8
      exact (kM_goesOn_J76 F hO) s4 x3 r5 H locs ls hS (lv_sub hl [1, 2, 0] rfl) h
    · have h := h.2 c8
      refine lv_aload_n hx hb dX3_goesOn_62 rfl (lv_at hl 1 rfl) ?_
      refine lv_bipush (v := 7) hx hb dX3_goesOn_63 (by decide) ?_
      refine lv_iconst (v := 0) hx hb dX3_goesOn_65 (by decide) ?_
      refine gw_callVv (As := [.int 7, .int 0]) (rest := []) F hS (tM_emits l g hO s4 7 0 _ h) (cwV 2 hts (lw_V q1857 q1859 qs70 q90 q1860) rfl rfl rfl (by decide +kernel) ⟨Nat.le_of_ble_eq_true rfl, Nat.le_of_ble_eq_true rfl⟩) (m_rec F hO hS) rfl hl.1 rfl (Nat.le_of_ble_eq_true rfl) dX3_goesOn_66 ⟨Nat.le_refl 0, Nat.le_refl 0⟩ (fun s15 H locs h hS => ?_)
      refine lv_aload_n hx hb dX3_goesOn_69 rfl (lv_at hl 1 rfl) ?_
      refine m_geta F hO hS 48 (by decide) rfl q1445 dX3_goesOn_70 ?_
      refine lv_iload_n hx hb dX3_goesOn_73 rfl (lv_at hl 2 rfl) ?_
      refine lv_iconst (v := 0) hx hb dX3_goesOn_74 (by decide) ?_
      obtain ⟨b17, h⟩ := h
      refine m_zast F hO hS 48 37 rfl rfl b17 bz0 dX3_goesOn_75 (fun s16 es16 H locs hS => ?_)
      have h := h s16 es16
      exact (kM_goesOn_J76 F hO) s16 x3 r5 H locs ls hS (lv_sub hl [1, 2, 0] rfl) h
  · have h := h.2 c6
    refine lv_aload_n hx hb dX3_goesOn_34 rfl (lv_at hl 1 rfl) ?_
    refine m_geta F hO hS 47 (by decide) rfl q1444 dX3_goesOn_35 ?_
    refine lv_iload_n hx hb dX3_goesOn_38 rfl (lv_at hl 2 rfl) ?_
    refine lv_iconst (v := 1) hx hb dX3_goesOn_39 (by decide) ?_
    obtain ⟨b19, h⟩ := h
    refine m_zast F hO hS 47 36 rfl rfl b19 bz1 dX3_goesOn_40 (fun s18 es18 H locs hS => ?_)
    have h := h s18 es18
    refine lv_aload_n hx hb dX3_goesOn_41 rfl (lv_at hl 1 rfl) ?_
    refine lv_dup hx hb dX3_goesOn_42 rfl ?_
    refine m_geti F hO hS 44 (by decide) rfl q1441 dX3_goesOn_43 ?_
    refine lv_iconst (v := 1) hx hb dX3_goesOn_46 (by decide) ?_
    refine lv_iadd hx hb dX3_goesOn_47 ?_
    refine m_puti F hO hS 44 (by decide) rfl q1441 rfl (by decide +kernel) dX3_goesOn_48 (fun s20 es20 H locs hS => ?_)
    have h := h s20 es20
    refine lv_iconst (v := 1) hx hb dX3_goesOn_51 (by decide) ?_
    exact gw_zret F hS bz1 h dX3_goesOn_52
set_option maxHeartbeats 4000000 in
set_option maxRecDepth 100000 in
theorem kM_goesOn {p : Program} {l : Launch} {e : Env} {s : State} {m : MethodId} {args : Array Value} {below : List Frame} {meth : Method} {c : Code} {g : MG} {post : Int32 → MS → Prop} (F : gFx p s m c meth args cX3_goesOn 3 RX3 (some .boolean) (mD g) (mcl g) (mty g)) (hO : MOK g) (σ : MS) (a1 : Int32) (H : Heap) (locs : List Loc) (ls : Array Slot) (hS : gSt (MWd g) (MA g) s σ H locs) (hl : lv_has ls 3 [(0, .ref (mad g 62)), (1, .int a1)]) (h : wM_goesOn post σ a1) : W p l e rM_goesOn s m args below meth c H locs 0 0 (MQ below (va_Qi (zpost post) (gB (MWd g)) (MA g)) args s 0 0 (MA g)) (F0 m 0 ls []) := by
  have hx := F.hx
  have hb := F.hb
  have hts := F.1.2.2.2.2
  have hown := F.1.2.2.2.1
  rw [wM_goesOn] at h
  refine lv_aload_n hx hb dX3_goesOn_0 rfl (lv_at hl 0 rfl) ?_
  refine m_geta F hO hS 47 (by decide) rfl q1444 dX3_goesOn_1 ?_
  refine lv_iload_n hx hb dX3_goesOn_4 rfl (lv_at hl 1 rfl) ?_
  obtain ⟨b1, h⟩ := h
  refine m_zald F hS 47 36 rfl rfl b1 dX3_goesOn_5 ?_
  refine lv_if_eq (tgt := 23) hx hb dX3_goesOn_6 (by decide) (fun c2 => ?_) (fun c2 => ?_)
  · have h := h.1 c2
    exact (kM_goesOn_J23 F hO) σ a1 H locs ls hS (lv_sub hl [0, 1] rfl) h
  · have h := h.2 c2
    refine lv_aload_n hx hb dX3_goesOn_9 rfl (lv_at hl 0 rfl) ?_
    refine lv_bipush (v := 6) hx hb dX3_goesOn_10 (by decide) ?_
    refine lv_iconst (v := 0) hx hb dX3_goesOn_12 (by decide) ?_
    refine gw_callVv (As := [.int 6, .int 0]) (rest := []) F hS (tM_emits l g hO σ 6 0 _ h) (cwV 2 hts (lw_V q1857 q1859 qs70 q90 q1860) rfl rfl rfl (by decide +kernel) ⟨Nat.le_of_ble_eq_true rfl, Nat.le_of_ble_eq_true rfl⟩) (m_rec F hO hS) rfl hl.1 rfl (Nat.le_of_ble_eq_true rfl) dX3_goesOn_13 ⟨Nat.le_refl 0, Nat.le_refl 0⟩ (fun s21 H locs h hS => ?_)
    refine lv_aload_n hx hb dX3_goesOn_16 rfl (lv_at hl 0 rfl) ?_
    refine m_geta F hO hS 47 (by decide) rfl q1444 dX3_goesOn_17 ?_
    refine lv_iload_n hx hb dX3_goesOn_20 rfl (lv_at hl 1 rfl) ?_
    refine lv_iconst (v := 0) hx hb dX3_goesOn_21 (by decide) ?_
    obtain ⟨b23, h⟩ := h
    refine m_zast F hO hS 47 36 rfl rfl b23 bz0 dX3_goesOn_22 (fun s22 es22 H locs hS => ?_)
    have h := h s22 es22
    exact (kM_goesOn_J23 F hO) s22 a1 H locs ls hS (lv_sub hl [0, 1] rfl) h
set_option maxHeartbeats 4000000 in
set_option maxRecDepth 100000 in
theorem tM_goesOn (l : Launch) (g : MG) (hO : MOK g) (σ : MS) (a1 : Int32) (post : Int32 → MS → Prop) (h : wM_goesOn post σ a1) : Met l yX3_goesOn (ws_ yX3_goesOn cX3_goesOn 3 (some .boolean)) rM_goesOn (va_Pc [.ref (mad g 62), .int a1] (gPre (MWd g) (mD g) (mcl g) (mty g) σ)) (va_Qi (zpost post) (gB (MWd g)) (MA g)) 0 0 (MA g) := by
  refine Met.ofW (cc := cX3_goesOn) (maxL := 3) (ret := (some .boolean)) (by decide) rfl ?_
  intro p e s m args below meth c s₁ B hml hv
  obtain ⟨rfl, hW, hK⟩ := hv
  have hts := atoms_spec (ws := (ws_ yX3_goesOn cX3_goesOn 3 (some .boolean))) B.pre
  have hts : ∀ w ∈ lw_all, w.before _ s = true := fun w h => hts w (List.mem_cons_of_mem _ h)
  have hl := lv_entry ([.ref (mad g 62), .int a1]) (n := 3) (Nat.le_of_ble_eq_true rfl)
  rw [lg_entry_eq]
  generalize (lg_sl ([.ref (mad g 62), .int a1]) ++ List.replicate (3 - (lg_sl ([.ref (mad g 62), .int a1])).length) Slot.unset).toArray = ls at hl ⊢
  exact kM_goesOn ⟨⟨B.exec, B.bytes, hml, findClass_of_methodNamed B.named, hts⟩, hK, B.returns, B.notSynchronized⟩ hO σ a1 s.heap [] ls ⟨hW, va_S.rf⟩ hl h
def wM_test_J183 (post : MS → Prop) (K144 : MS → Int32 → Int32 → Prop) (σ : MS) (x24 : Int32) : Prop := (¬ ((σ 45 0) = 0) → K144 σ x24 1) ∧ ((σ 45 0) = 0 → wM_goesOn (fun r27 s26 => (∀ v29 : Int32, v29 = (if r27 = 0 then 0 else 1) → K144 s26 x24 v29)) σ x24)
def wM_test_L144 (post : MS → Prop) (K207 : MS → Int32 → Int32 → Prop) : Nat → MS → Int32 → Int32 → Prop
  | 0, _, _, _ => False
  | n + 1, σ, x16, x17 => (¬ (x17 = 0) → K207 σ x16 x17) ∧ (x17 = 0 → (x16 ≤ 0 → K207 σ x16 x17) ∧ (¬ (x16 ≤ 0) → wM_needs (fun s20 => (∀ x21 : Int32, x21 = x16 + (-1) → vp_in x21 8 ∧ ((s20 49 x21.toNatClampNeg) = 0 → wM_test_J183 post (wM_test_L144 post K207 n) s20 x21) ∧ (¬ ((s20 49 x21.toNatClampNeg) = 0) → (¬ ((s20 45 0) = 0) → wM_test_J183 post (wM_test_L144 post K207 n) s20 x21) ∧ ((s20 45 0) = 0 → wM_emits (fun s32 => wM_test_J183 post (wM_test_L144 post K207 n) s32 x21) s20 5 0)))) σ 41))
def wM_test_J123 (post : MS → Prop) (K16 : MS → Int32 → Prop) (σ : MS) (x14 : Int32) : Prop := (¬ ((σ 45 0) = 0) → ∃ n33, wM_test_L144 post (fun σ34 x35 x36 => (¬ (x36 = 0) → K16 σ34 x35) ∧ (x36 = 0 → post σ34)) n33 σ x14 1) ∧ ((σ 45 0) = 0 → wM_goesOn (fun r39 s38 => (∀ v41 : Int32, v41 = (if r39 = 0 then 0 else 1) → ∃ n43, wM_test_L144 post (fun σ44 x45 x46 => (¬ (x46 = 0) → K16 σ44 x45) ∧ (x46 = 0 → post σ44)) n43 s38 x14 v41)) σ x14)
def wM_test_L16 (post : MS → Prop) : Nat → MS → Int32 → Prop
  | 0, _, _ => False
  | n + 1, σ, x5 => (¬ ((σ 45 0) = 0) → post σ) ∧ ((σ 45 0) = 0 → wM_passes (fun r8 s7 => wM_next (fun r10 s9 => (¬ (r10 = 40) → wM_claim (fun s12 => (r8 = 0 → wM_test_J123 post (wM_test_L16 post n) s12 x5) ∧ (¬ (r8 = 0) → (¬ ((s12 45 0) = 0) → wM_test_J123 post (wM_test_L16 post n) s12 x5) ∧ ((s12 45 0) = 0 → wM_emits (fun s49 => wM_test_J123 post (wM_test_L16 post n) s49 x5) s12 5 0))) s9) ∧ (r10 = 40 → (∀ v51 : Int32, v51 = (if x5 = 6 then 1 else 0) → (∀ s53 : MS, s53 = up2 s9 45 0 v51 → (∀ v55 : Int32, v55 = (if (s53 45 0) = 0 then 1 else 0) → (∀ s57 : MS, s57 = up2 s53 44 0 ((s53 44 0) + v55) → vp_in x5 8 ∧ ∀ s58 : MS, s58 = up2 s57 49 x5.toNatClampNeg r8 → ∀ x60 : Int32, x60 = x5 + 1 → vp_in x60 8 ∧ ∀ s61 : MS, s61 = up2 s58 47 x60.toNatClampNeg 0 → vp_in x60 8 ∧ ∀ s63 : MS, s63 = up2 s61 48 x60.toNatClampNeg 0 → wM_test_L16 post n s63 x60)))))) s7) σ 33)
def wM_test (post : MS → Prop) (σ : MS) : Prop := (vp_in 0 8 ∧ ∀ s1 : MS, s1 = up2 σ 47 (0 : Int32).toNatClampNeg 0 → vp_in 0 8 ∧ ∀ s3 : MS, s3 = up2 s1 48 (0 : Int32).toNatClampNeg 0 → ∃ n65, wM_test_L16 post n65 s3 0)
abbrev rM_test : Room := { frames := 3, cells := 0, slots := 0, locals := 70 }
set_option maxHeartbeats 4000000 in
set_option maxRecDepth 100000 in
theorem kM_test_J183 {p : Program} {l : Launch} {e : Env} {s : State} {m : MethodId} {args : Array Value} {below : List Frame} {meth : Method} {c : Code} {g : MG} {post : MS → Prop} {K144 : MS → Int32 → Int32 → Prop} (F : gFx p s m c meth args cX3_test 4 RX3 none (mD g) (mcl g) (mty g)) (hO : MOK g) (hK144 : ∀ (σ : MS) (z0 : Int32) (z1 : Int32) (H : Heap) (locs : List Loc) (ls : Array Slot), gSt (MWd g) (MA g) s σ H locs → lv_has ls 4 [(0, .ref (mad g 62)), (1, .int z0), (3, .int z1)] → K144 σ z0 z1 → W p l e rM_test s m args below meth c H locs 0 0 (MQ below (va_Qv post (gB (MWd g)) (MA g)) args s 0 0 (MA g)) (F0 m 144 ls [])) : ∀ (σ : MS) (x24 : Int32) (H : Heap) (locs : List Loc) (ls : Array Slot), gSt (MWd g) (MA g) s σ H locs → lv_has ls 4 [(0, .ref (mad g 62)), (1, .int x24)] → wM_test_J183 post K144 σ x24 → W p l e rM_test s m args below meth c H locs 0 0 (MQ below (va_Qv post (gB (MWd g)) (MA g)) args s 0 0 (MA g)) (F0 m 183 ls []) := by
  have hx := F.hx
  have hb := F.hb
  have hts := F.1.2.2.2.2
  have hown := F.1.2.2.2.1
  intro σ x24 H locs ls hS hl h
  rw [wM_test_J183] at h
  refine lv_aload_n hx hb dX3_test_183 rfl (lv_at hl 0 rfl) ?_
  refine m_geti F hO hS 45 (by decide) rfl q1442 dX3_test_184 ?_
  refine lv_if_ne (tgt := 198) hx hb dX3_test_187 (by decide) (fun c25 => ?_) (fun c25 => ?_)
  · have h := h.1 c25
    refine lv_iconst (v := 1) hx hb dX3_test_198 (by decide) ?_
    refine lv_goto (tgt := 203) hx hb dX3_test_199 (by decide) ?_
    refine lv_istore_n (lv' := [(3, .int 1), (0, .ref (mad g 62)), (1, .int x24)]) hx hb dX3_test_203 rfl hl (by decide) rfl (fun ls hl => ?_)
    refine lv_goto (tgt := 144) hx hb dX3_test_204 (by decide) ?_
    exact hK144 σ x24 1 H locs ls hS (lv_sub hl [1, 2, 0] rfl) h
  · have h := h.2 c25
    refine lv_aload_n hx hb dX3_test_190 rfl (lv_at hl 0 rfl) ?_
    refine lv_iload_n hx hb dX3_test_191 rfl (lv_at hl 1 rfl) ?_
    refine gw_callVi (As := [.int x24]) (rest := []) F hS (tM_goesOn l g hO σ x24 _ h) (cwV 1 hts (lw_V q1861 q1863 qs71 q90 q1864) rfl rfl rfl (by decide +kernel) ⟨Nat.le_of_ble_eq_true rfl, Nat.le_of_ble_eq_true rfl⟩) (m_rec F hO hS) rfl hl.1 rfl (Nat.le_of_ble_eq_true rfl) dX3_test_192 ⟨Nat.le_refl 0, Nat.le_refl 0⟩ (fun r27 s26 H locs h hS => ?_)
    obtain ⟨zr27, h⟩ := h
    refine gcut (P := ∀ (v29 : Int32) (H : Heap) (locs : List Loc) (ls : Array Slot), v29 = (if r27 = 0 then 0 else 1) → gSt (MWd g) (MA g) s s26 H locs → lv_has ls 4 [(0, .ref (mad g 62)), (1, .int x24)] → W p l e rM_test s m args below meth c H locs 0 0 (MQ below (va_Qv post (gB (MWd g)) (MA g)) args s 0 0 (MA g)) (F0 m 203 ls [.int v29])) (fun v29 H locs ls ev29 hS hl => ?_) (fun J30 => ?_)
    · have h := h v29 ev29
      refine lv_istore_n (lv' := [(3, .int v29), (0, .ref (mad g 62)), (1, .int x24)]) hx hb dX3_test_203 rfl hl (by decide) rfl (fun ls hl => ?_)
      refine lv_goto (tgt := 144) hx hb dX3_test_204 (by decide) ?_
      exact hK144 s26 x24 v29 H locs ls hS (lv_sub hl [1, 2, 0] rfl) h
    · refine lv_if_eq (tgt := 202) hx hb dX3_test_195 (by decide) (fun c28 => ?_) (fun c28 => ?_)
      · refine lv_iconst (v := 0) hx hb dX3_test_202 (by decide) ?_
        exact J30 _ H locs ls (by first | with_reducible rfl | ((try rw [if_pos c28]); done)) hS (lv_sub hl [0, 1] rfl)
      · refine lv_iconst (v := 1) hx hb dX3_test_198 (by decide) ?_
        refine lv_goto (tgt := 203) hx hb dX3_test_199 (by decide) ?_
        exact J30 _ H locs ls (by first | with_reducible rfl | ((try rw [if_neg c28]); done)) hS (lv_sub hl [0, 1] rfl)
set_option maxHeartbeats 4000000 in
set_option maxRecDepth 100000 in
theorem kM_test_L144 {p : Program} {l : Launch} {e : Env} {s : State} {m : MethodId} {args : Array Value} {below : List Frame} {meth : Method} {c : Code} {g : MG} {post : MS → Prop} {K207 : MS → Int32 → Int32 → Prop} (F : gFx p s m c meth args cX3_test 4 RX3 none (mD g) (mcl g) (mty g)) (hO : MOK g) (hK207 : ∀ (σ : MS) (z0 : Int32) (z1 : Int32) (H : Heap) (locs : List Loc) (ls : Array Slot), gSt (MWd g) (MA g) s σ H locs → lv_has ls 4 [(0, .ref (mad g 62)), (1, .int z0), (3, .int z1)] → K207 σ z0 z1 → W p l e rM_test s m args below meth c H locs 0 0 (MQ below (va_Qv post (gB (MWd g)) (MA g)) args s 0 0 (MA g)) (F0 m 207 ls [])) : ∀ (n : Nat) (σ : MS) (x16 : Int32) (x17 : Int32) (H : Heap) (locs : List Loc) (ls : Array Slot), gSt (MWd g) (MA g) s σ H locs → lv_has ls 4 [(0, .ref (mad g 62)), (1, .int x16), (3, .int x17)] → wM_test_L144 post K207 n σ x16 x17 → W p l e rM_test s m args below meth c H locs 0 0 (MQ below (va_Qv post (gB (MWd g)) (MA g)) args s 0 0 (MA g)) (F0 m 144 ls []) := by
  have hx := F.hx
  have hb := F.hb
  have hts := F.1.2.2.2.2
  have hown := F.1.2.2.2.1
  intro n
  induction n with
  | zero =>
    intro σ x16 x17 H locs ls hS hl h
    exact False.elim h
  | succ n ih =>
    intro σ x16 x17 H locs ls hS hl h
    rw [wM_test_L144] at h
    refine lv_iload_n hx hb dX3_test_144 rfl (lv_at hl 2 rfl) ?_
    refine lv_if_ne (tgt := 207) hx hb dX3_test_145 (by decide) (fun c18 => ?_) (fun c18 => ?_)
    · have h := h.1 c18
      exact hK207 σ x16 x17 H locs ls hS (lv_sub hl [0, 1, 2] rfl) h
    · have h := h.2 c18
      refine lv_iload_n hx hb dX3_test_148 rfl (lv_at hl 1 rfl) ?_
      refine lv_if_le (tgt := 207) hx hb dX3_test_149 (by decide) (fun c19 => ?_) (fun c19 => ?_)
      · have h := h.1 c19
        exact hK207 σ x16 x17 H locs ls hS (lv_sub hl [0, 1, 2] rfl) h
      · have h := h.2 c19
        refine lv_aload_n hx hb dX3_test_152 rfl (lv_at hl 0 rfl) ?_
        refine lv_bipush (v := 41) hx hb dX3_test_153 (by decide) ?_
        refine gw_callVv (As := [.int 41]) (rest := []) F hS (tM_needs l g hO σ 41 _ h) (cwV 1 hts (lw_V q1836 q1838 qs65 q90 q1839) rfl rfl rfl (by decide +kernel) ⟨Nat.le_of_ble_eq_true rfl, Nat.le_of_ble_eq_true rfl⟩) (m_rec F hO hS) rfl hl.1 rfl (Nat.le_of_ble_eq_true rfl) dX3_test_155 ⟨Nat.le_refl 0, Nat.le_refl 0⟩ (fun s20 H locs h hS => ?_)
        obtain ⟨x21, ex21⟩ : ∃ y : Int32, y = x16 + (-1) := ⟨_, rfl⟩
        have h := h x21 ex21
        refine lv_iinc (v := x21) (lv' := [(1, .int x21), (0, .ref (mad g 62)), (3, .int x17)]) hx hb dX3_test_158 hl (k := 1) rfl (by rw [ex21]; rfl) (by decide) rfl (fun ls hl => ?_)
        refine lv_aload_n hx hb dX3_test_161 rfl (lv_at hl 1 rfl) ?_
        refine m_geta F hO hS 49 (by decide) rfl q1446 dX3_test_162 ?_
        refine lv_iload_n hx hb dX3_test_165 rfl (lv_at hl 0 rfl) ?_
        obtain ⟨b22, h⟩ := h
        refine m_zald F hS 49 38 rfl rfl b22 dX3_test_166 ?_
        refine lv_if_eq (tgt := 183) hx hb dX3_test_167 (by decide) (fun c23 => ?_) (fun c23 => ?_)
        · have h := h.1 c23
          exact (kM_test_J183 F hO ih) s20 x21 H locs ls hS (lv_sub hl [1, 0] rfl) h
        · have h := h.2 c23
          refine lv_aload_n hx hb dX3_test_170 rfl (lv_at hl 1 rfl) ?_
          refine m_geti F hO hS 45 (by decide) rfl q1442 dX3_test_171 ?_
          refine lv_if_ne (tgt := 183) hx hb dX3_test_174 (by decide) (fun c31 => ?_) (fun c31 => ?_)
          · have h := h.1 c31
            exact (kM_test_J183 F hO ih) s20 x21 H locs ls hS (lv_sub hl [1, 0] rfl) h
          · have h := h.2 c31
            refine lv_aload_n hx hb dX3_test_177 rfl (lv_at hl 1 rfl) ?_
            refine lv_iconst (v := 5) hx hb dX3_test_178 (by decide) ?_
            refine lv_iconst (v := 0) hx hb dX3_test_179 (by decide) ?_
            refine gw_callVv (As := [.int 5, .int 0]) (rest := []) F hS (tM_emits l g hO s20 5 0 _ h) (cwV 2 hts (lw_V q1857 q1859 qs70 q90 q1860) rfl rfl rfl (by decide +kernel) ⟨Nat.le_of_ble_eq_true rfl, Nat.le_of_ble_eq_true rfl⟩) (m_rec F hO hS) rfl hl.1 rfl (Nat.le_of_ble_eq_true rfl) dX3_test_180 ⟨Nat.le_refl 0, Nat.le_refl 0⟩ (fun s32 H locs h hS => ?_)
            exact (kM_test_J183 F hO ih) s32 x21 H locs ls hS (lv_sub hl [1, 0] rfl) h
set_option maxHeartbeats 4000000 in
set_option maxRecDepth 100000 in
theorem kM_test_J123 {p : Program} {l : Launch} {e : Env} {s : State} {m : MethodId} {args : Array Value} {below : List Frame} {meth : Method} {c : Code} {g : MG} {post : MS → Prop} {K16 : MS → Int32 → Prop} (F : gFx p s m c meth args cX3_test 4 RX3 none (mD g) (mcl g) (mty g)) (hO : MOK g) (hK16 : ∀ (σ : MS) (z0 : Int32) (H : Heap) (locs : List Loc) (ls : Array Slot), gSt (MWd g) (MA g) s σ H locs → lv_has ls 4 [(0, .ref (mad g 62)), (1, .int z0)] → K16 σ z0 → W p l e rM_test s m args below meth c H locs 0 0 (MQ below (va_Qv post (gB (MWd g)) (MA g)) args s 0 0 (MA g)) (F0 m 16 ls [])) : ∀ (σ : MS) (x14 : Int32) (H : Heap) (locs : List Loc) (ls : Array Slot), gSt (MWd g) (MA g) s σ H locs → lv_has ls 4 [(0, .ref (mad g 62)), (1, .int x14)] → wM_test_J123 post K16 σ x14 → W p l e rM_test s m args below meth c H locs 0 0 (MQ below (va_Qv post (gB (MWd g)) (MA g)) args s 0 0 (MA g)) (F0 m 123 ls []) := by
  have hx := F.hx
  have hb := F.hb
  have hts := F.1.2.2.2.2
  have hown := F.1.2.2.2.1
  intro σ x14 H locs ls hS hl h
  rw [wM_test_J123] at h
  refine lv_aload_n hx hb dX3_test_123 rfl (lv_at hl 0 rfl) ?_
  refine m_geti F hO hS 45 (by decide) rfl q1442 dX3_test_124 ?_
  refine lv_if_ne (tgt := 138) hx hb dX3_test_127 (by decide) (fun c15 => ?_) (fun c15 => ?_)
  · have h := h.1 c15
    refine lv_iconst (v := 1) hx hb dX3_test_138 (by decide) ?_
    refine lv_goto (tgt := 143) hx hb dX3_test_139 (by decide) ?_
    refine lv_istore_n (lv' := [(3, .int 1), (0, .ref (mad g 62)), (1, .int x14)]) hx hb dX3_test_143 rfl hl (by decide) rfl (fun ls hl => ?_)
    obtain ⟨n33, h⟩ := h
    refine (kM_test_L144 F hO ?_ n33) σ x14 1 H locs ls hS (lv_sub hl [1, 2, 0] rfl) h
    · intro σ34 x35 x36 H locs ls hS hl h
      refine lv_iload_n hx hb dX3_test_207 rfl (lv_at hl 2 rfl) ?_
      refine lv_if_ne (tgt := 212) hx hb dX3_test_208 (by decide) (fun c37 => ?_) (fun c37 => ?_)
      · have h := h.1 c37
        refine lv_goto (tgt := 16) hx hb dX3_test_212 (by decide) ?_
        exact hK16 σ34 x35 H locs ls hS (lv_sub hl [0, 1] rfl) h
      · have h := h.2 c37
        exact gw_vret F hS h dX3_test_211
  · have h := h.2 c15
    refine lv_aload_n hx hb dX3_test_130 rfl (lv_at hl 0 rfl) ?_
    refine lv_iload_n hx hb dX3_test_131 rfl (lv_at hl 1 rfl) ?_
    refine gw_callVi (As := [.int x14]) (rest := []) F hS (tM_goesOn l g hO σ x14 _ h) (cwV 1 hts (lw_V q1861 q1863 qs71 q90 q1864) rfl rfl rfl (by decide +kernel) ⟨Nat.le_of_ble_eq_true rfl, Nat.le_of_ble_eq_true rfl⟩) (m_rec F hO hS) rfl hl.1 rfl (Nat.le_of_ble_eq_true rfl) dX3_test_132 ⟨Nat.le_refl 0, Nat.le_refl 0⟩ (fun r39 s38 H locs h hS => ?_)
    obtain ⟨zr39, h⟩ := h
    refine gcut (P := ∀ (v41 : Int32) (H : Heap) (locs : List Loc) (ls : Array Slot), v41 = (if r39 = 0 then 0 else 1) → gSt (MWd g) (MA g) s s38 H locs → lv_has ls 4 [(0, .ref (mad g 62)), (1, .int x14)] → W p l e rM_test s m args below meth c H locs 0 0 (MQ below (va_Qv post (gB (MWd g)) (MA g)) args s 0 0 (MA g)) (F0 m 143 ls [.int v41])) (fun v41 H locs ls ev41 hS hl => ?_) (fun J42 => ?_)
    · have h := h v41 ev41
      refine lv_istore_n (lv' := [(3, .int v41), (0, .ref (mad g 62)), (1, .int x14)]) hx hb dX3_test_143 rfl hl (by decide) rfl (fun ls hl => ?_)
      obtain ⟨n43, h⟩ := h
      refine (kM_test_L144 F hO ?_ n43) s38 x14 v41 H locs ls hS (lv_sub hl [1, 2, 0] rfl) h
      · intro σ44 x45 x46 H locs ls hS hl h
        refine lv_iload_n hx hb dX3_test_207 rfl (lv_at hl 2 rfl) ?_
        refine lv_if_ne (tgt := 212) hx hb dX3_test_208 (by decide) (fun c47 => ?_) (fun c47 => ?_)
        · have h := h.1 c47
          refine lv_goto (tgt := 16) hx hb dX3_test_212 (by decide) ?_
          exact hK16 σ44 x45 H locs ls hS (lv_sub hl [0, 1] rfl) h
        · have h := h.2 c47
          exact gw_vret F hS h dX3_test_211
    · refine lv_if_eq (tgt := 142) hx hb dX3_test_135 (by decide) (fun c40 => ?_) (fun c40 => ?_)
      · refine lv_iconst (v := 0) hx hb dX3_test_142 (by decide) ?_
        exact J42 _ H locs ls (by first | with_reducible rfl | ((try rw [if_pos c40]); done)) hS (lv_sub hl [0, 1] rfl)
      · refine lv_iconst (v := 1) hx hb dX3_test_138 (by decide) ?_
        refine lv_goto (tgt := 143) hx hb dX3_test_139 (by decide) ?_
        exact J42 _ H locs ls (by first | with_reducible rfl | ((try rw [if_neg c40]); done)) hS (lv_sub hl [0, 1] rfl)
set_option maxHeartbeats 4000000 in
set_option maxRecDepth 100000 in
theorem kM_test_L16 {p : Program} {l : Launch} {e : Env} {s : State} {m : MethodId} {args : Array Value} {below : List Frame} {meth : Method} {c : Code} {g : MG} {post : MS → Prop} (F : gFx p s m c meth args cX3_test 4 RX3 none (mD g) (mcl g) (mty g)) (hO : MOK g) : ∀ (n : Nat) (σ : MS) (x5 : Int32) (H : Heap) (locs : List Loc) (ls : Array Slot), gSt (MWd g) (MA g) s σ H locs → lv_has ls 4 [(0, .ref (mad g 62)), (1, .int x5)] → wM_test_L16 post n σ x5 → W p l e rM_test s m args below meth c H locs 0 0 (MQ below (va_Qv post (gB (MWd g)) (MA g)) args s 0 0 (MA g)) (F0 m 16 ls []) := by
  have hx := F.hx
  have hb := F.hb
  have hts := F.1.2.2.2.2
  have hown := F.1.2.2.2.1
  intro n
  induction n with
  | zero =>
    intro σ x5 H locs ls hS hl h
    exact False.elim h
  | succ n ih =>
    intro σ x5 H locs ls hS hl h
    rw [wM_test_L16] at h
    refine lv_aload_n hx hb dX3_test_16 rfl (lv_at hl 0 rfl) ?_
    refine m_geti F hO hS 45 (by decide) rfl q1442 dX3_test_17 ?_
    refine lv_if_ne (tgt := 215) hx hb dX3_test_20 (by decide) (fun c6 => ?_) (fun c6 => ?_)
    · have h := h.1 c6
      exact gw_vret F hS h dX3_test_215
    · have h := h.2 c6
      refine lv_aload_n hx hb dX3_test_23 rfl (lv_at hl 0 rfl) ?_
      refine lv_bipush (v := 33) hx hb dX3_test_24 (by decide) ?_
      refine gw_callVi (As := [.int 33]) (rest := []) F hS (tM_passes l g hO σ 33 _ h) (cwV 1 hts (lw_V q1844 q1846 qs67 q90 q1847) rfl rfl rfl (by decide +kernel) ⟨Nat.le_of_ble_eq_true rfl, Nat.le_of_ble_eq_true rfl⟩) (m_rec F hO hS) rfl hl.1 rfl (Nat.le_of_ble_eq_true rfl) dX3_test_26 ⟨Nat.le_refl 0, Nat.le_refl 0⟩ (fun r8 s7 H locs h hS => ?_)
      obtain ⟨zr8, h⟩ := h
      refine lv_istore_n (lv' := [(2, .int r8), (0, .ref (mad g 62)), (1, .int x5)]) hx hb dX3_test_29 rfl hl (by decide) rfl (fun ls hl => ?_)
      refine lv_aload_n hx hb dX3_test_30 rfl (lv_at hl 1 rfl) ?_
      refine gw_callVi (As := []) (rest := []) F hS (tM_next l g hO s7 _ h) (cwV 0 hts (lw_V q1830 q1832 qs64 q90 q1833) rfl rfl rfl (by decide +kernel) ⟨Nat.le_of_ble_eq_true rfl, Nat.le_of_ble_eq_true rfl⟩) (m_rec F hO hS) rfl hl.1 rfl (Nat.le_of_ble_eq_true rfl) dX3_test_31 ⟨Nat.le_refl 0, Nat.le_refl 0⟩ (fun r10 s9 H locs h hS => ?_)
      refine lv_bipush (v := 40) hx hb dX3_test_34 (by decide) ?_
      refine lv_icmp_ne (tgt := 102) hx hb dX3_test_36 (by decide) (fun c11 => ?_) (fun c11 => ?_)
      · have h := h.1 c11
        refine lv_aload_n hx hb dX3_test_102 rfl (lv_at hl 1 rfl) ?_
        refine gw_callVv (As := []) (rest := []) F hS (tM_claim l g hO s9 _ h) (cwV 0 hts (lw_V q1848 q1850 qs68 q90 q1851) rfl rfl rfl (by decide +kernel) ⟨Nat.le_of_ble_eq_true rfl, Nat.le_of_ble_eq_true rfl⟩) (m_rec F hO hS) rfl hl.1 rfl (Nat.le_of_ble_eq_true rfl) dX3_test_103 ⟨Nat.le_refl 0, Nat.le_refl 0⟩ (fun s12 H locs h hS => ?_)
        refine lv_iload_n hx hb dX3_test_106 rfl (lv_at hl 0 rfl) ?_
        refine lv_if_eq (tgt := 123) hx hb dX3_test_107 (by decide) (fun c13 => ?_) (fun c13 => ?_)
        · have h := h.1 c13
          exact (kM_test_J123 F hO ih) s12 x5 H locs ls hS (lv_sub hl [1, 2] rfl) h
        · have h := h.2 c13
          refine lv_aload_n hx hb dX3_test_110 rfl (lv_at hl 1 rfl) ?_
          refine m_geti F hO hS 45 (by decide) rfl q1442 dX3_test_111 ?_
          refine lv_if_ne (tgt := 123) hx hb dX3_test_114 (by decide) (fun c48 => ?_) (fun c48 => ?_)
          · have h := h.1 c48
            exact (kM_test_J123 F hO ih) s12 x5 H locs ls hS (lv_sub hl [1, 2] rfl) h
          · have h := h.2 c48
            refine lv_aload_n hx hb dX3_test_117 rfl (lv_at hl 1 rfl) ?_
            refine lv_iconst (v := 5) hx hb dX3_test_118 (by decide) ?_
            refine lv_iconst (v := 0) hx hb dX3_test_119 (by decide) ?_
            refine gw_callVv (As := [.int 5, .int 0]) (rest := []) F hS (tM_emits l g hO s12 5 0 _ h) (cwV 2 hts (lw_V q1857 q1859 qs70 q90 q1860) rfl rfl rfl (by decide +kernel) ⟨Nat.le_of_ble_eq_true rfl, Nat.le_of_ble_eq_true rfl⟩) (m_rec F hO hS) rfl hl.1 rfl (Nat.le_of_ble_eq_true rfl) dX3_test_120 ⟨Nat.le_refl 0, Nat.le_refl 0⟩ (fun s49 H locs h hS => ?_)
            exact (kM_test_J123 F hO ih) s49 x5 H locs ls hS (lv_sub hl [1, 2] rfl) h
      · have h := h.2 c11
        refine lv_aload_n hx hb dX3_test_39 rfl (lv_at hl 1 rfl) ?_
        refine lv_iload_n hx hb dX3_test_40 rfl (lv_at hl 2 rfl) ?_
        refine lv_bipush (v := 6) hx hb dX3_test_41 (by decide) ?_
        refine gcut (P := ∀ (v51 : Int32) (H : Heap) (locs : List Loc) (ls : Array Slot), v51 = (if x5 = 6 then 1 else 0) → gSt (MWd g) (MA g) s s9 H locs → lv_has ls 4 [(0, .ref (mad g 62)), (1, .int x5), (2, .int r8)] → W p l e rM_test s m args below meth c H locs 0 0 (MQ below (va_Qv post (gB (MWd g)) (MA g)) args s 0 0 (MA g)) (F0 m 51 ls [.int v51, .ref (mad g 62)])) (fun v51 H locs ls ev51 hS hl => ?_) (fun J52 => ?_)
        · have h := h v51 ev51
          refine m_putz F hO hS 45 (by decide) rfl q1442 rfl (by decide +kernel) (by rw [ev51]; exact (bz_ite bz1 bz0)) dX3_test_51 (fun s53 es53 H locs hS => ?_)
          have h := h s53 es53
          refine lv_aload_n hx hb dX3_test_54 rfl (lv_at hl 0 rfl) ?_
          refine lv_dup hx hb dX3_test_55 rfl ?_
          refine m_geti F hO hS 44 (by decide) rfl q1441 dX3_test_56 ?_
          refine lv_aload_n hx hb dX3_test_59 rfl (lv_at hl 0 rfl) ?_
          refine m_geti F hO hS 45 (by decide) rfl q1442 dX3_test_60 ?_
          refine gcut (P := ∀ (v55 : Int32) (H : Heap) (locs : List Loc) (ls : Array Slot), v55 = (if (s53 45 0) = 0 then 1 else 0) → gSt (MWd g) (MA g) s s53 H locs → lv_has ls 4 [(0, .ref (mad g 62)), (1, .int x5), (2, .int r8)] → W p l e rM_test s m args below meth c H locs 0 0 (MQ below (va_Qv post (gB (MWd g)) (MA g)) args s 0 0 (MA g)) (F0 m 71 ls [.int v55, .int (s53 44 0), .ref (mad g 62)])) (fun v55 H locs ls ev55 hS hl => ?_) (fun J56 => ?_)
          · have h := h v55 ev55
            refine lv_iadd hx hb dX3_test_71 ?_
            refine m_puti F hO hS 44 (by decide) rfl q1441 rfl (by decide +kernel) dX3_test_72 (fun s57 es57 H locs hS => ?_)
            have h := h s57 es57
            refine lv_aload_n hx hb dX3_test_75 rfl (lv_at hl 0 rfl) ?_
            refine m_geta F hO hS 49 (by decide) rfl q1446 dX3_test_76 ?_
            refine lv_iload_n hx hb dX3_test_79 rfl (lv_at hl 1 rfl) ?_
            refine lv_iload_n hx hb dX3_test_80 rfl (lv_at hl 2 rfl) ?_
            obtain ⟨b59, h⟩ := h
            refine m_zast F hO hS 49 38 rfl rfl b59 zr8 dX3_test_81 (fun s58 es58 H locs hS => ?_)
            have h := h s58 es58
            obtain ⟨x60, ex60⟩ : ∃ y : Int32, y = x5 + 1 := ⟨_, rfl⟩
            have h := h x60 ex60
            refine lv_iinc (v := x60) (lv' := [(1, .int x60), (0, .ref (mad g 62)), (2, .int r8)]) hx hb dX3_test_82 hl (k := 1) rfl (by rw [ex60]; rfl) (by decide) rfl (fun ls hl => ?_)
            refine lv_aload_n hx hb dX3_test_85 rfl (lv_at hl 1 rfl) ?_
            refine m_geta F hO hS 47 (by decide) rfl q1444 dX3_test_86 ?_
            refine lv_iload_n hx hb dX3_test_89 rfl (lv_at hl 0 rfl) ?_
            refine lv_iconst (v := 0) hx hb dX3_test_90 (by decide) ?_
            obtain ⟨b62, h⟩ := h
            refine m_zast F hO hS 47 36 rfl rfl b62 bz0 dX3_test_91 (fun s61 es61 H locs hS => ?_)
            have h := h s61 es61
            refine lv_aload_n hx hb dX3_test_92 rfl (lv_at hl 1 rfl) ?_
            refine m_geta F hO hS 48 (by decide) rfl q1445 dX3_test_93 ?_
            refine lv_iload_n hx hb dX3_test_96 rfl (lv_at hl 0 rfl) ?_
            refine lv_iconst (v := 0) hx hb dX3_test_97 (by decide) ?_
            obtain ⟨b64, h⟩ := h
            refine m_zast F hO hS 48 37 rfl rfl b64 bz0 dX3_test_98 (fun s63 es63 H locs hS => ?_)
            have h := h s63 es63
            refine lv_goto (tgt := 212) hx hb dX3_test_99 (by decide) ?_
            refine lv_goto (tgt := 16) hx hb dX3_test_212 (by decide) ?_
            exact ih s63 x60 H locs ls hS (lv_sub hl [1, 0] rfl) h
          · refine lv_if_eq (tgt := 70) hx hb dX3_test_63 (by decide) (fun c54 => ?_) (fun c54 => ?_)
            · refine lv_iconst (v := 1) hx hb dX3_test_70 (by decide) ?_
              exact J56 _ H locs ls (by first | with_reducible rfl | ((try rw [if_pos c54]); done)) hS (lv_sub hl [0, 1, 2] rfl)
            · refine lv_iconst (v := 0) hx hb dX3_test_66 (by decide) ?_
              refine lv_goto (tgt := 71) hx hb dX3_test_67 (by decide) ?_
              exact J56 _ H locs ls (by first | with_reducible rfl | ((try rw [if_neg c54]); done)) hS (lv_sub hl [0, 1, 2] rfl)
        · refine lv_icmp_ne (tgt := 50) hx hb dX3_test_43 (by decide) (fun c50 => ?_) (fun c50 => ?_)
          · refine lv_iconst (v := 0) hx hb dX3_test_50 (by decide) ?_
            exact J52 _ H locs ls (by first | with_reducible rfl | ((try rw [if_neg c50]); done)) hS (lv_sub hl [1, 2, 0] rfl)
          · refine lv_iconst (v := 1) hx hb dX3_test_46 (by decide) ?_
            refine lv_goto (tgt := 51) hx hb dX3_test_47 (by decide) ?_
            exact J52 _ H locs ls (by first | with_reducible rfl | ((try rw [if_pos c50]); done)) hS (lv_sub hl [1, 2, 0] rfl)
set_option maxHeartbeats 4000000 in
set_option maxRecDepth 100000 in
theorem kM_test {p : Program} {l : Launch} {e : Env} {s : State} {m : MethodId} {args : Array Value} {below : List Frame} {meth : Method} {c : Code} {g : MG} {post : MS → Prop} (F : gFx p s m c meth args cX3_test 4 RX3 none (mD g) (mcl g) (mty g)) (hO : MOK g) (σ : MS) (H : Heap) (locs : List Loc) (ls : Array Slot) (hS : gSt (MWd g) (MA g) s σ H locs) (hl : lv_has ls 4 [(0, .ref (mad g 62))]) (h : wM_test post σ) : W p l e rM_test s m args below meth c H locs 0 0 (MQ below (va_Qv post (gB (MWd g)) (MA g)) args s 0 0 (MA g)) (F0 m 0 ls []) := by
  have hx := F.hx
  have hb := F.hb
  have hts := F.1.2.2.2.2
  have hown := F.1.2.2.2.1
  rw [wM_test] at h
  refine lv_iconst (v := 0) hx hb dX3_test_0 (by decide) ?_
  refine lv_istore_n (lv' := [(1, .int 0), (0, .ref (mad g 62))]) hx hb dX3_test_1 rfl hl (by decide) rfl (fun ls hl => ?_)
  refine lv_aload_n hx hb dX3_test_2 rfl (lv_at hl 1 rfl) ?_
  refine m_geta F hO hS 47 (by decide) rfl q1444 dX3_test_3 ?_
  refine lv_iconst (v := 0) hx hb dX3_test_6 (by decide) ?_
  refine lv_iconst (v := 0) hx hb dX3_test_7 (by decide) ?_
  obtain ⟨b2, h⟩ := h
  refine m_zast F hO hS 47 36 rfl rfl b2 bz0 dX3_test_8 (fun s1 es1 H locs hS => ?_)
  have h := h s1 es1
  refine lv_aload_n hx hb dX3_test_9 rfl (lv_at hl 1 rfl) ?_
  refine m_geta F hO hS 48 (by decide) rfl q1445 dX3_test_10 ?_
  refine lv_iconst (v := 0) hx hb dX3_test_13 (by decide) ?_
  refine lv_iconst (v := 0) hx hb dX3_test_14 (by decide) ?_
  obtain ⟨b4, h⟩ := h
  refine m_zast F hO hS 48 37 rfl rfl b4 bz0 dX3_test_15 (fun s3 es3 H locs hS => ?_)
  have h := h s3 es3
  obtain ⟨n65, h⟩ := h
  exact (kM_test_L16 F hO n65) s3 0 H locs ls hS (lv_sub hl [1, 0] rfl) h
set_option maxHeartbeats 4000000 in
set_option maxRecDepth 100000 in
theorem tM_test (l : Launch) (g : MG) (hO : MOK g) (σ : MS) (post : MS → Prop) (h : wM_test post σ) : Met l yX3_test (ws_ yX3_test cX3_test 4 none) rM_test (va_Pc [.ref (mad g 62)] (gPre (MWd g) (mD g) (mcl g) (mty g) σ)) (va_Qv post (gB (MWd g)) (MA g)) 0 0 (MA g) := by
  refine Met.ofW (cc := cX3_test) (maxL := 4) (ret := none) (by decide) rfl ?_
  intro p e s m args below meth c s₁ B hml hv
  obtain ⟨rfl, hW, hK⟩ := hv
  have hts := atoms_spec (ws := (ws_ yX3_test cX3_test 4 none)) B.pre
  have hts : ∀ w ∈ lw_all, w.before _ s = true := fun w h => hts w (List.mem_cons_of_mem _ h)
  have hl := lv_entry ([.ref (mad g 62)]) (n := 4) (Nat.le_of_ble_eq_true rfl)
  rw [lg_entry_eq]
  generalize (lg_sl ([.ref (mad g 62)]) ++ List.replicate (4 - (lg_sl ([.ref (mad g 62)])).length) Slot.unset).toArray = ls at hl ⊢
  exact kM_test ⟨⟨B.exec, B.bytes, hml, findClass_of_methodNamed B.named, hts⟩, hK, B.returns, B.notSynchronized⟩ hO σ s.heap [] ls ⟨hW, va_S.rf⟩ hl h
def wM_law_J183 (post : Int32 → MS → Prop) (σ : MS) (x30 : Int32) (x31 : Int32) (x32 : Int32) : Prop := (bz x32 ∧ ∀ s33 : MS, s33 = up2 σ 45 0 x32 → ∀ s35 : MS, s35 = up2 s33 43 0 0 → ((s35 45 0) = 0 → (¬ ((s35 33 0) = 16) → (vp_in (s35 33 0) 16 ∧ ∀ s38 : MS, s38 = up2 s35 34 (s35 33 0).toNatClampNeg x30 → (∀ v41 : Int32, v41 = (if x31 = 0 then 15 else x31) → (vp_in (s38 33 0) 16 ∧ ∀ s43 : MS, s43 = up2 s38 35 (s38 33 0).toNatClampNeg v41 → vp_in (s43 33 0) 16 ∧ ∀ s45 : MS, s45 = up2 s43 36 (s43 33 0).toNatClampNeg (s43 46 0) → vp_in (s45 33 0) 16 ∧ ∀ s47 : MS, s47 = up2 s45 37 (s45 33 0).toNatClampNeg 0 → vp_in (s47 33 0) 16 ∧ ∀ s49 : MS, s49 = up2 s47 38 (s47 33 0).toNatClampNeg 416 → vp_in (s49 33 0) 16 ∧ ∀ s51 : MS, s51 = up2 s49 39 (s49 33 0).toNatClampNeg 417 → ∀ s53 : MS, s53 = up2 s51 33 0 ((s51 33 0) + 1) → post ((s53 33 0) - 1) s53)))) ∧ ((s35 33 0) = 16 → post (-3) s35)) ∧ (¬ ((s35 45 0) = 0) → post (((-20) : Int32) - (s35 44 0)) s35))
def wM_law_J178 (post : Int32 → MS → Prop) (σ : MS) (x28 : Int32) (x29 : Int32) : Prop := wM_law_J183 post σ x28 x29 1
def wM_law_J153 (post : Int32 → MS → Prop) (σ : MS) (x23 : Int32) (x24 : Int32) : Prop := wM_needs (fun s25 => wM_test (fun s26 => (¬ ((s26 45 0) = 0) → wM_law_J178 post s26 x23 x24) ∧ ((s26 45 0) = 0 → wM_next (fun r55 s54 => (∀ v57 : Int32, v57 = (if r55 = 0 then 0 else 1) → (∀ s59 : MS, s59 = up2 s54 45 0 v57 → ∀ s60 : MS, s60 = up2 s59 43 0 0 → ((s60 45 0) = 0 → (¬ ((s60 33 0) = 16) → (vp_in (s60 33 0) 16 ∧ ∀ s63 : MS, s63 = up2 s60 34 (s60 33 0).toNatClampNeg x23 → (∀ v66 : Int32, v66 = (if x24 = 0 then 15 else x24) → (vp_in (s63 33 0) 16 ∧ ∀ s68 : MS, s68 = up2 s63 35 (s63 33 0).toNatClampNeg v66 → vp_in (s68 33 0) 16 ∧ ∀ s70 : MS, s70 = up2 s68 36 (s68 33 0).toNatClampNeg (s68 46 0) → vp_in (s70 33 0) 16 ∧ ∀ s72 : MS, s72 = up2 s70 37 (s70 33 0).toNatClampNeg 0 → vp_in (s72 33 0) 16 ∧ ∀ s74 : MS, s74 = up2 s72 38 (s72 33 0).toNatClampNeg 416 → vp_in (s74 33 0) 16 ∧ ∀ s76 : MS, s76 = up2 s74 39 (s74 33 0).toNatClampNeg 417 → ∀ s78 : MS, s78 = up2 s76 33 0 ((s76 33 0) + 1) → post ((s78 33 0) - 1) s78)))) ∧ ((s60 33 0) = 16 → post (-3) s60)) ∧ (¬ ((s60 45 0) = 0) → post (((-20) : Int32) - (s60 44 0)) s60)))) s26)) s25) σ 58
def wM_law_L92 (post : Int32 → MS → Prop) : Nat → MS → Int32 → Int32 → Prop
  | 0, _, _, _ => False
  | n + 1, σ, x20, x21 => (¬ ((σ 45 0) = 0) → wM_law_J153 post σ x20 x21) ∧ ((σ 45 0) = 0 → wM_next (fun r80 s79 => wM_in (fun r82 s81 => (r82 = 0 → wM_law_J153 post s81 x20 x21) ∧ (¬ (r82 = 0) → wM_next (fun r85 s84 => (¬ ((x21 >>> ((r85 - 48) &&& 31)) = 0) → wM_law_J153 post s84 x20 x21) ∧ ((x21 >>> ((r85 - 48) &&& 31)) = 0 → wM_next (fun r88 s87 => (∀ x89 : Int32, x89 = x21 ||| ((1 : Int32) <<< ((r88 - 48) &&& 31)) → ∀ s90 : MS, s90 = up2 s87 44 0 ((s87 44 0) + 1) → wM_law_L92 post n s90 x20 x89)) s84)) s81)) s79 r80.toInt64 48 51) σ)
def wM_law (post : Int32 → MS → Prop) (σ : MS) : Prop := (∀ s1 : MS, s1 = up2 σ 44 0 0 → ∀ s2 : MS, s2 = up2 s1 45 0 0 → ∀ s3 : MS, s3 = up2 s2 46 0 0 → wM_next (fun r5 s4 => (∀ v8 : Int32, v8 = (if r5 = 116 then 0 else if r5 = 114 then 1 else 2) → (∀ v13 : Int32, v13 = (if r5 = 116 then 0 else if r5 = 114 then 0 else if r5 = 99 then 0 else 1) → (∀ s15 : MS, s15 = up2 s4 45 0 v13 → (∀ v17 : Int32, v17 = (if (s15 45 0) = 0 then 1 else 0) → (∀ s19 : MS, s19 = up2 s15 44 0 ((s15 44 0) + v17) → ∃ n91, wM_law_L92 post n91 s19 v8 0)))))) s3)
abbrev rM_law : Room := { frames := 4, cells := 0, slots := 0, locals := 93 }
set_option maxHeartbeats 4000000 in
set_option maxRecDepth 100000 in
theorem kM_law_J183 {p : Program} {l : Launch} {e : Env} {s : State} {m : MethodId} {args : Array Value} {below : List Frame} {meth : Method} {c : Code} {g : MG} {post : Int32 → MS → Prop} (F : gFx p s m c meth args cX3_law 4 RX3 (some .int) (mD g) (mcl g) (mty g)) (hO : MOK g) : ∀ (σ : MS) (x30 : Int32) (x31 : Int32) (x32 : Int32) (H : Heap) (locs : List Loc) (ls : Array Slot), gSt (MWd g) (MA g) s σ H locs → lv_has ls 4 [(0, .ref (mad g 62)), (2, .int x30), (3, .int x31)] → wM_law_J183 post σ x30 x31 x32 → W p l e rM_law s m args below meth c H locs 0 0 (MQ below (va_Qi post (gB (MWd g)) (MA g)) args s 0 0 (MA g)) (F0 m 183 ls [.int x32, .ref (mad g 62)]) := by
  have hx := F.hx
  have hb := F.hb
  have hts := F.1.2.2.2.2
  have hown := F.1.2.2.2.1
  intro σ x30 x31 x32 H locs ls hS hl h
  rw [wM_law_J183] at h
  obtain ⟨b34, h⟩ := h
  refine m_putz F hO hS 45 (by decide) rfl q1442 rfl (by decide +kernel) b34 dX3_law_183 (fun s33 es33 H locs hS => ?_)
  have h := h s33 es33
  refine lv_aload_n hx hb dX3_law_186 rfl (lv_at hl 0 rfl) ?_
  refine lv_iconst (v := 0) hx hb dX3_law_187 (by decide) ?_
  refine m_puti F hO hS 43 (by decide) rfl q1440 rfl (by decide +kernel) dX3_law_188 (fun s35 es35 H locs hS => ?_)
  have h := h s35 es35
  refine lv_aload_n hx hb dX3_law_191 rfl (lv_at hl 0 rfl) ?_
  refine m_geti F hO hS 45 (by decide) rfl q1442 dX3_law_192 ?_
  refine lv_if_eq (tgt := 206) hx hb dX3_law_195 (by decide) (fun c36 => ?_) (fun c36 => ?_)
  · have h := h.1 c36
    refine lv_aload_n hx hb dX3_law_206 rfl (lv_at hl 0 rfl) ?_
    refine m_geti F hO hS 33 (by decide) rfl q1430 dX3_law_207 ?_
    refine lv_bipush (v := 16) hx hb dX3_law_210 (by decide) ?_
    refine lv_icmp_ne (tgt := 218) hx hb dX3_law_212 (by decide) (fun c37 => ?_) (fun c37 => ?_)
    · have h := h.1 c37
      refine lv_aload_n hx hb dX3_law_218 rfl (lv_at hl 0 rfl) ?_
      refine m_geta F hO hS 34 (by decide) rfl q1431 dX3_law_219 ?_
      refine lv_aload_n hx hb dX3_law_222 rfl (lv_at hl 0 rfl) ?_
      refine m_geti F hO hS 33 (by decide) rfl q1430 dX3_law_223 ?_
      refine lv_iload_n hx hb dX3_law_226 rfl (lv_at hl 1 rfl) ?_
      obtain ⟨b39, h⟩ := h
      refine m_iast F hO hS 34 27 rfl rfl b39 dX3_law_227 (fun s38 es38 H locs hS => ?_)
      have h := h s38 es38
      refine lv_aload_n hx hb dX3_law_228 rfl (lv_at hl 0 rfl) ?_
      refine m_geta F hO hS 35 (by decide) rfl q1432 dX3_law_229 ?_
      refine lv_aload_n hx hb dX3_law_232 rfl (lv_at hl 0 rfl) ?_
      refine m_geti F hO hS 33 (by decide) rfl q1430 dX3_law_233 ?_
      refine lv_iload_n hx hb dX3_law_236 rfl (lv_at hl 2 rfl) ?_
      refine gcut (P := ∀ (v41 : Int32) (H : Heap) (locs : List Loc) (ls : Array Slot), v41 = (if x31 = 0 then 15 else x31) → gSt (MWd g) (MA g) s s38 H locs → lv_has ls 4 [(0, .ref (mad g 62))] → W p l e rM_law s m args below meth c H locs 0 0 (MQ below (va_Qi post (gB (MWd g)) (MA g)) args s 0 0 (MA g)) (F0 m 246 ls [.int v41, .int (s38 33 0), .ref (mad g 35)])) (fun v41 H locs ls ev41 hS hl => ?_) (fun J42 => ?_)
      · have h := h v41 ev41
        obtain ⟨b44, h⟩ := h
        refine m_iast F hO hS 35 28 rfl rfl b44 dX3_law_246 (fun s43 es43 H locs hS => ?_)
        have h := h s43 es43
        refine lv_aload_n hx hb dX3_law_247 rfl (lv_at hl 0 rfl) ?_
        refine m_geta F hO hS 36 (by decide) rfl q1433 dX3_law_248 ?_
        refine lv_aload_n hx hb dX3_law_251 rfl (lv_at hl 0 rfl) ?_
        refine m_geti F hO hS 33 (by decide) rfl q1430 dX3_law_252 ?_
        refine lv_aload_n hx hb dX3_law_255 rfl (lv_at hl 0 rfl) ?_
        refine m_geti F hO hS 46 (by decide) rfl q1443 dX3_law_256 ?_
        obtain ⟨b46, h⟩ := h
        refine m_iast F hO hS 36 29 rfl rfl b46 dX3_law_259 (fun s45 es45 H locs hS => ?_)
        have h := h s45 es45
        refine lv_aload_n hx hb dX3_law_260 rfl (lv_at hl 0 rfl) ?_
        refine m_geta F hO hS 37 (by decide) rfl q1434 dX3_law_261 ?_
        refine lv_aload_n hx hb dX3_law_264 rfl (lv_at hl 0 rfl) ?_
        refine m_geti F hO hS 33 (by decide) rfl q1430 dX3_law_265 ?_
        refine lv_iconst (v := 0) hx hb dX3_law_268 (by decide) ?_
        obtain ⟨b48, h⟩ := h
        refine m_iast F hO hS 37 30 rfl rfl b48 dX3_law_269 (fun s47 es47 H locs hS => ?_)
        have h := h s47 es47
        refine lv_aload_n hx hb dX3_law_270 rfl (lv_at hl 0 rfl) ?_
        refine m_geta F hO hS 38 (by decide) rfl q1435 dX3_law_271 ?_
        refine lv_aload_n hx hb dX3_law_274 rfl (lv_at hl 0 rfl) ?_
        refine m_geti F hO hS 33 (by decide) rfl q1430 dX3_law_275 ?_
        refine lv_sipush (v := 416) hx hb dX3_law_278 (by decide) ?_
        obtain ⟨b50, h⟩ := h
        refine m_iast F hO hS 38 31 rfl rfl b50 dX3_law_281 (fun s49 es49 H locs hS => ?_)
        have h := h s49 es49
        refine lv_aload_n hx hb dX3_law_282 rfl (lv_at hl 0 rfl) ?_
        refine m_geta F hO hS 39 (by decide) rfl q1436 dX3_law_283 ?_
        refine lv_aload_n hx hb dX3_law_286 rfl (lv_at hl 0 rfl) ?_
        refine m_geti F hO hS 33 (by decide) rfl q1430 dX3_law_287 ?_
        refine lv_sipush (v := 417) hx hb dX3_law_290 (by decide) ?_
        obtain ⟨b52, h⟩ := h
        refine m_iast F hO hS 39 32 rfl rfl b52 dX3_law_293 (fun s51 es51 H locs hS => ?_)
        have h := h s51 es51
        refine lv_aload_n hx hb dX3_law_294 rfl (lv_at hl 0 rfl) ?_
        refine lv_dup hx hb dX3_law_295 rfl ?_
        refine m_geti F hO hS 33 (by decide) rfl q1430 dX3_law_296 ?_
        refine lv_iconst (v := 1) hx hb dX3_law_299 (by decide) ?_
        refine lv_iadd hx hb dX3_law_300 ?_
        refine m_puti F hO hS 33 (by decide) rfl q1430 rfl (by decide +kernel) dX3_law_301 (fun s53 es53 H locs hS => ?_)
        have h := h s53 es53
        refine lv_aload_n hx hb dX3_law_304 rfl (lv_at hl 0 rfl) ?_
        refine m_geti F hO hS 33 (by decide) rfl q1430 dX3_law_305 ?_
        refine lv_iconst (v := 1) hx hb dX3_law_308 (by decide) ?_
        refine lv_isub hx hb dX3_law_309 ?_
        exact gw_iret F hS h dX3_law_310
      · refine lv_if_ne (tgt := 245) hx hb dX3_law_237 (by decide) (fun c40 => ?_) (fun c40 => ?_)
        · refine lv_iload_n hx hb dX3_law_245 rfl (lv_at hl 2 rfl) ?_
          exact J42 _ H locs ls (by first | with_reducible rfl | ((try rw [if_neg c40]); done)) hS (lv_sub hl [0] rfl)
        · refine lv_bipush (v := 15) hx hb dX3_law_240 (by decide) ?_
          refine lv_goto (tgt := 246) hx hb dX3_law_242 (by decide) ?_
          exact J42 _ H locs ls (by first | with_reducible rfl | ((try rw [if_pos c40]); done)) hS (lv_sub hl [0] rfl)
    · have h := h.2 c37
      refine lv_bipush (v := (-3)) hx hb dX3_law_215 (by decide) ?_
      exact gw_iret F hS h dX3_law_217
  · have h := h.2 c36
    refine lv_bipush (v := (-20)) hx hb dX3_law_198 (by decide) ?_
    refine lv_aload_n hx hb dX3_law_200 rfl (lv_at hl 0 rfl) ?_
    refine m_geti F hO hS 44 (by decide) rfl q1441 dX3_law_201 ?_
    refine lv_isub hx hb dX3_law_204 ?_
    exact gw_iret F hS h dX3_law_205
set_option maxHeartbeats 4000000 in
set_option maxRecDepth 100000 in
theorem kM_law_J178 {p : Program} {l : Launch} {e : Env} {s : State} {m : MethodId} {args : Array Value} {below : List Frame} {meth : Method} {c : Code} {g : MG} {post : Int32 → MS → Prop} (F : gFx p s m c meth args cX3_law 4 RX3 (some .int) (mD g) (mcl g) (mty g)) (hO : MOK g) : ∀ (σ : MS) (x28 : Int32) (x29 : Int32) (H : Heap) (locs : List Loc) (ls : Array Slot), gSt (MWd g) (MA g) s σ H locs → lv_has ls 4 [(0, .ref (mad g 62)), (2, .int x28), (3, .int x29)] → wM_law_J178 post σ x28 x29 → W p l e rM_law s m args below meth c H locs 0 0 (MQ below (va_Qi post (gB (MWd g)) (MA g)) args s 0 0 (MA g)) (F0 m 178 ls [.ref (mad g 62)]) := by
  have hx := F.hx
  have hb := F.hb
  have hts := F.1.2.2.2.2
  have hown := F.1.2.2.2.1
  intro σ x28 x29 H locs ls hS hl h
  rw [wM_law_J178] at h
  refine lv_iconst (v := 1) hx hb dX3_law_178 (by decide) ?_
  refine lv_goto (tgt := 183) hx hb dX3_law_179 (by decide) ?_
  exact (kM_law_J183 F hO) σ x28 x29 1 H locs ls hS (lv_sub hl [0, 1, 2] rfl) h
set_option maxHeartbeats 4000000 in
set_option maxRecDepth 100000 in
theorem kM_law_J153 {p : Program} {l : Launch} {e : Env} {s : State} {m : MethodId} {args : Array Value} {below : List Frame} {meth : Method} {c : Code} {g : MG} {post : Int32 → MS → Prop} (F : gFx p s m c meth args cX3_law 4 RX3 (some .int) (mD g) (mcl g) (mty g)) (hO : MOK g) : ∀ (σ : MS) (x23 : Int32) (x24 : Int32) (H : Heap) (locs : List Loc) (ls : Array Slot), gSt (MWd g) (MA g) s σ H locs → lv_has ls 4 [(0, .ref (mad g 62)), (2, .int x23), (3, .int x24)] → wM_law_J153 post σ x23 x24 → W p l e rM_law s m args below meth c H locs 0 0 (MQ below (va_Qi post (gB (MWd g)) (MA g)) args s 0 0 (MA g)) (F0 m 153 ls []) := by
  have hx := F.hx
  have hb := F.hb
  have hts := F.1.2.2.2.2
  have hown := F.1.2.2.2.1
  intro σ x23 x24 H locs ls hS hl h
  rw [wM_law_J153] at h
  refine lv_aload_n hx hb dX3_law_153 rfl (lv_at hl 0 rfl) ?_
  refine lv_bipush (v := 58) hx hb dX3_law_154 (by decide) ?_
  refine gw_callVv (As := [.int 58]) (rest := []) F hS (tM_needs l g hO σ 58 _ h) (cwV 1 hts (lw_V q1836 q1838 qs65 q90 q1839) rfl rfl rfl (by decide +kernel) ⟨Nat.le_of_ble_eq_true rfl, Nat.le_of_ble_eq_true rfl⟩) (m_rec F hO hS) rfl hl.1 rfl (Nat.le_of_ble_eq_true rfl) dX3_law_156 ⟨Nat.le_refl 0, Nat.le_refl 0⟩ (fun s25 H locs h hS => ?_)
  refine lv_aload_n hx hb dX3_law_159 rfl (lv_at hl 0 rfl) ?_
  refine gw_callVv (As := []) (rest := []) F hS (tM_test l g hO s25 _ h) (cwV 0 hts (lw_V q1840 q1842 qs66 q90 q1843) rfl rfl rfl (by decide +kernel) ⟨Nat.le_of_ble_eq_true rfl, Nat.le_of_ble_eq_true rfl⟩) (m_rec F hO hS) rfl hl.1 rfl (Nat.le_of_ble_eq_true rfl) dX3_law_160 ⟨Nat.le_refl 0, Nat.le_refl 0⟩ (fun s26 H locs h hS => ?_)
  refine lv_aload_n hx hb dX3_law_163 rfl (lv_at hl 0 rfl) ?_
  refine lv_aload_n hx hb dX3_law_164 rfl (lv_at hl 0 rfl) ?_
  refine m_geti F hO hS 45 (by decide) rfl q1442 dX3_law_165 ?_
  refine lv_if_ne (tgt := 178) hx hb dX3_law_168 (by decide) (fun c27 => ?_) (fun c27 => ?_)
  · have h := h.1 c27
    exact (kM_law_J178 F hO) s26 x23 x24 H locs ls hS (lv_sub hl [0, 1, 2] rfl) h
  · have h := h.2 c27
    refine lv_aload_n hx hb dX3_law_171 rfl (lv_at hl 0 rfl) ?_
    refine gw_callVi (As := []) (rest := [.ref (mad g 62)]) F hS (tM_next l g hO s26 _ h) (cwV 0 hts (lw_V q1830 q1832 qs64 q90 q1833) rfl rfl rfl (by decide +kernel) ⟨Nat.le_of_ble_eq_true rfl, Nat.le_of_ble_eq_true rfl⟩) (m_rec F hO hS) rfl hl.1 rfl (Nat.le_of_ble_eq_true rfl) dX3_law_172 ⟨Nat.le_refl 0, Nat.le_refl 0⟩ (fun r55 s54 H locs h hS => ?_)
    refine gcut (P := ∀ (v57 : Int32) (H : Heap) (locs : List Loc) (ls : Array Slot), v57 = (if r55 = 0 then 0 else 1) → gSt (MWd g) (MA g) s s54 H locs → lv_has ls 4 [(0, .ref (mad g 62)), (2, .int x23), (3, .int x24)] → W p l e rM_law s m args below meth c H locs 0 0 (MQ below (va_Qi post (gB (MWd g)) (MA g)) args s 0 0 (MA g)) (F0 m 183 ls [.int v57, .ref (mad g 62)])) (fun v57 H locs ls ev57 hS hl => ?_) (fun J58 => ?_)
    · have h := h v57 ev57
      refine m_putz F hO hS 45 (by decide) rfl q1442 rfl (by decide +kernel) (by rw [ev57]; exact (bz_ite bz0 bz1)) dX3_law_183 (fun s59 es59 H locs hS => ?_)
      have h := h s59 es59
      refine lv_aload_n hx hb dX3_law_186 rfl (lv_at hl 0 rfl) ?_
      refine lv_iconst (v := 0) hx hb dX3_law_187 (by decide) ?_
      refine m_puti F hO hS 43 (by decide) rfl q1440 rfl (by decide +kernel) dX3_law_188 (fun s60 es60 H locs hS => ?_)
      have h := h s60 es60
      refine lv_aload_n hx hb dX3_law_191 rfl (lv_at hl 0 rfl) ?_
      refine m_geti F hO hS 45 (by decide) rfl q1442 dX3_law_192 ?_
      refine lv_if_eq (tgt := 206) hx hb dX3_law_195 (by decide) (fun c61 => ?_) (fun c61 => ?_)
      · have h := h.1 c61
        refine lv_aload_n hx hb dX3_law_206 rfl (lv_at hl 0 rfl) ?_
        refine m_geti F hO hS 33 (by decide) rfl q1430 dX3_law_207 ?_
        refine lv_bipush (v := 16) hx hb dX3_law_210 (by decide) ?_
        refine lv_icmp_ne (tgt := 218) hx hb dX3_law_212 (by decide) (fun c62 => ?_) (fun c62 => ?_)
        · have h := h.1 c62
          refine lv_aload_n hx hb dX3_law_218 rfl (lv_at hl 0 rfl) ?_
          refine m_geta F hO hS 34 (by decide) rfl q1431 dX3_law_219 ?_
          refine lv_aload_n hx hb dX3_law_222 rfl (lv_at hl 0 rfl) ?_
          refine m_geti F hO hS 33 (by decide) rfl q1430 dX3_law_223 ?_
          refine lv_iload_n hx hb dX3_law_226 rfl (lv_at hl 1 rfl) ?_
          obtain ⟨b64, h⟩ := h
          refine m_iast F hO hS 34 27 rfl rfl b64 dX3_law_227 (fun s63 es63 H locs hS => ?_)
          have h := h s63 es63
          refine lv_aload_n hx hb dX3_law_228 rfl (lv_at hl 0 rfl) ?_
          refine m_geta F hO hS 35 (by decide) rfl q1432 dX3_law_229 ?_
          refine lv_aload_n hx hb dX3_law_232 rfl (lv_at hl 0 rfl) ?_
          refine m_geti F hO hS 33 (by decide) rfl q1430 dX3_law_233 ?_
          refine lv_iload_n hx hb dX3_law_236 rfl (lv_at hl 2 rfl) ?_
          refine gcut (P := ∀ (v66 : Int32) (H : Heap) (locs : List Loc) (ls : Array Slot), v66 = (if x24 = 0 then 15 else x24) → gSt (MWd g) (MA g) s s63 H locs → lv_has ls 4 [(0, .ref (mad g 62))] → W p l e rM_law s m args below meth c H locs 0 0 (MQ below (va_Qi post (gB (MWd g)) (MA g)) args s 0 0 (MA g)) (F0 m 246 ls [.int v66, .int (s63 33 0), .ref (mad g 35)])) (fun v66 H locs ls ev66 hS hl => ?_) (fun J67 => ?_)
          · have h := h v66 ev66
            obtain ⟨b69, h⟩ := h
            refine m_iast F hO hS 35 28 rfl rfl b69 dX3_law_246 (fun s68 es68 H locs hS => ?_)
            have h := h s68 es68
            refine lv_aload_n hx hb dX3_law_247 rfl (lv_at hl 0 rfl) ?_
            refine m_geta F hO hS 36 (by decide) rfl q1433 dX3_law_248 ?_
            refine lv_aload_n hx hb dX3_law_251 rfl (lv_at hl 0 rfl) ?_
            refine m_geti F hO hS 33 (by decide) rfl q1430 dX3_law_252 ?_
            refine lv_aload_n hx hb dX3_law_255 rfl (lv_at hl 0 rfl) ?_
            refine m_geti F hO hS 46 (by decide) rfl q1443 dX3_law_256 ?_
            obtain ⟨b71, h⟩ := h
            refine m_iast F hO hS 36 29 rfl rfl b71 dX3_law_259 (fun s70 es70 H locs hS => ?_)
            have h := h s70 es70
            refine lv_aload_n hx hb dX3_law_260 rfl (lv_at hl 0 rfl) ?_
            refine m_geta F hO hS 37 (by decide) rfl q1434 dX3_law_261 ?_
            refine lv_aload_n hx hb dX3_law_264 rfl (lv_at hl 0 rfl) ?_
            refine m_geti F hO hS 33 (by decide) rfl q1430 dX3_law_265 ?_
            refine lv_iconst (v := 0) hx hb dX3_law_268 (by decide) ?_
            obtain ⟨b73, h⟩ := h
            refine m_iast F hO hS 37 30 rfl rfl b73 dX3_law_269 (fun s72 es72 H locs hS => ?_)
            have h := h s72 es72
            refine lv_aload_n hx hb dX3_law_270 rfl (lv_at hl 0 rfl) ?_
            refine m_geta F hO hS 38 (by decide) rfl q1435 dX3_law_271 ?_
            refine lv_aload_n hx hb dX3_law_274 rfl (lv_at hl 0 rfl) ?_
            refine m_geti F hO hS 33 (by decide) rfl q1430 dX3_law_275 ?_
            refine lv_sipush (v := 416) hx hb dX3_law_278 (by decide) ?_
            obtain ⟨b75, h⟩ := h
            refine m_iast F hO hS 38 31 rfl rfl b75 dX3_law_281 (fun s74 es74 H locs hS => ?_)
            have h := h s74 es74
            refine lv_aload_n hx hb dX3_law_282 rfl (lv_at hl 0 rfl) ?_
            refine m_geta F hO hS 39 (by decide) rfl q1436 dX3_law_283 ?_
            refine lv_aload_n hx hb dX3_law_286 rfl (lv_at hl 0 rfl) ?_
            refine m_geti F hO hS 33 (by decide) rfl q1430 dX3_law_287 ?_
            refine lv_sipush (v := 417) hx hb dX3_law_290 (by decide) ?_
            obtain ⟨b77, h⟩ := h
            refine m_iast F hO hS 39 32 rfl rfl b77 dX3_law_293 (fun s76 es76 H locs hS => ?_)
            have h := h s76 es76
            refine lv_aload_n hx hb dX3_law_294 rfl (lv_at hl 0 rfl) ?_
            refine lv_dup hx hb dX3_law_295 rfl ?_
            refine m_geti F hO hS 33 (by decide) rfl q1430 dX3_law_296 ?_
            refine lv_iconst (v := 1) hx hb dX3_law_299 (by decide) ?_
            refine lv_iadd hx hb dX3_law_300 ?_
            refine m_puti F hO hS 33 (by decide) rfl q1430 rfl (by decide +kernel) dX3_law_301 (fun s78 es78 H locs hS => ?_)
            have h := h s78 es78
            refine lv_aload_n hx hb dX3_law_304 rfl (lv_at hl 0 rfl) ?_
            refine m_geti F hO hS 33 (by decide) rfl q1430 dX3_law_305 ?_
            refine lv_iconst (v := 1) hx hb dX3_law_308 (by decide) ?_
            refine lv_isub hx hb dX3_law_309 ?_
            exact gw_iret F hS h dX3_law_310
          · refine lv_if_ne (tgt := 245) hx hb dX3_law_237 (by decide) (fun c65 => ?_) (fun c65 => ?_)
            · refine lv_iload_n hx hb dX3_law_245 rfl (lv_at hl 2 rfl) ?_
              exact J67 _ H locs ls (by first | with_reducible rfl | ((try rw [if_neg c65]); done)) hS (lv_sub hl [0] rfl)
            · refine lv_bipush (v := 15) hx hb dX3_law_240 (by decide) ?_
              refine lv_goto (tgt := 246) hx hb dX3_law_242 (by decide) ?_
              exact J67 _ H locs ls (by first | with_reducible rfl | ((try rw [if_pos c65]); done)) hS (lv_sub hl [0] rfl)
        · have h := h.2 c62
          refine lv_bipush (v := (-3)) hx hb dX3_law_215 (by decide) ?_
          exact gw_iret F hS h dX3_law_217
      · have h := h.2 c61
        refine lv_bipush (v := (-20)) hx hb dX3_law_198 (by decide) ?_
        refine lv_aload_n hx hb dX3_law_200 rfl (lv_at hl 0 rfl) ?_
        refine m_geti F hO hS 44 (by decide) rfl q1441 dX3_law_201 ?_
        refine lv_isub hx hb dX3_law_204 ?_
        exact gw_iret F hS h dX3_law_205
    · refine lv_if_eq (tgt := 182) hx hb dX3_law_175 (by decide) (fun c56 => ?_) (fun c56 => ?_)
      · refine lv_iconst (v := 0) hx hb dX3_law_182 (by decide) ?_
        exact J58 _ H locs ls (by first | with_reducible rfl | ((try rw [if_pos c56]); done)) hS (lv_sub hl [0, 1, 2] rfl)
      · refine lv_iconst (v := 1) hx hb dX3_law_178 (by decide) ?_
        refine lv_goto (tgt := 183) hx hb dX3_law_179 (by decide) ?_
        exact J58 _ H locs ls (by first | with_reducible rfl | ((try rw [if_neg c56]); done)) hS (lv_sub hl [0, 1, 2] rfl)
set_option maxHeartbeats 4000000 in
set_option maxRecDepth 100000 in
theorem kM_law_L92 {p : Program} {l : Launch} {e : Env} {s : State} {m : MethodId} {args : Array Value} {below : List Frame} {meth : Method} {c : Code} {g : MG} {post : Int32 → MS → Prop} (F : gFx p s m c meth args cX3_law 4 RX3 (some .int) (mD g) (mcl g) (mty g)) (hO : MOK g) : ∀ (n : Nat) (σ : MS) (x20 : Int32) (x21 : Int32) (H : Heap) (locs : List Loc) (ls : Array Slot), gSt (MWd g) (MA g) s σ H locs → lv_has ls 4 [(0, .ref (mad g 62)), (2, .int x20), (3, .int x21)] → wM_law_L92 post n σ x20 x21 → W p l e rM_law s m args below meth c H locs 0 0 (MQ below (va_Qi post (gB (MWd g)) (MA g)) args s 0 0 (MA g)) (F0 m 92 ls []) := by
  have hx := F.hx
  have hb := F.hb
  have hts := F.1.2.2.2.2
  have hown := F.1.2.2.2.1
  intro n
  induction n with
  | zero =>
    intro σ x20 x21 H locs ls hS hl h
    exact False.elim h
  | succ n ih =>
    intro σ x20 x21 H locs ls hS hl h
    rw [wM_law_L92] at h
    refine lv_aload_n hx hb dX3_law_92 rfl (lv_at hl 0 rfl) ?_
    refine m_geti F hO hS 45 (by decide) rfl q1442 dX3_law_93 ?_
    refine lv_if_ne (tgt := 153) hx hb dX3_law_96 (by decide) (fun c22 => ?_) (fun c22 => ?_)
    · have h := h.1 c22
      exact (kM_law_J153 F hO) σ x20 x21 H locs ls hS (lv_sub hl [0, 1, 2] rfl) h
    · have h := h.2 c22
      refine lv_aload_n hx hb dX3_law_99 rfl (lv_at hl 0 rfl) ?_
      refine gw_callVi (As := []) (rest := []) F hS (tM_next l g hO σ _ h) (cwV 0 hts (lw_V q1830 q1832 qs64 q90 q1833) rfl rfl rfl (by decide +kernel) ⟨Nat.le_of_ble_eq_true rfl, Nat.le_of_ble_eq_true rfl⟩) (m_rec F hO hS) rfl hl.1 rfl (Nat.le_of_ble_eq_true rfl) dX3_law_100 ⟨Nat.le_refl 0, Nat.le_refl 0⟩ (fun r80 s79 H locs h hS => ?_)
      refine lv_i2l hx hb dX3_law_103 rfl ?_
      refine lv_ldc2 (v := 48) hx hb hown (hts _ q1834) dX3_law_104 ?_
      refine lv_ldc2 (v := 51) hx hb hown (hts _ q1835) dX3_law_107 ?_
      refine gw_callSi (As := [.long r80.toInt64, .long 48, .long 51]) (rest := []) F hS (tM_in l g hO s79 r80.toInt64 48 51 _ h) (va_cwS 3 hts (lw_S q1593 q1594 q90 q1595) rfl rfl rfl (by decide +kernel) ⟨Nat.le_of_ble_eq_true rfl, Nat.le_of_ble_eq_true rfl⟩) rfl hl.1 rfl (Nat.le_of_ble_eq_true rfl) dX3_law_110 ⟨Nat.le_refl 0, Nat.le_refl 0⟩ (fun r82 s81 H locs h hS => ?_)
      obtain ⟨zr82, h⟩ := h
      refine lv_if_eq (tgt := 153) hx hb dX3_law_113 (by decide) (fun c83 => ?_) (fun c83 => ?_)
      · have h := h.1 c83
        exact (kM_law_J153 F hO) s81 x20 x21 H locs ls hS (lv_sub hl [0, 1, 2] rfl) h
      · have h := h.2 c83
        refine lv_iload_n hx hb dX3_law_116 rfl (lv_at hl 2 rfl) ?_
        refine lv_aload_n hx hb dX3_law_117 rfl (lv_at hl 0 rfl) ?_
        refine gw_callVi (As := []) (rest := [.int x21]) F hS (tM_next l g hO s81 _ h) (cwV 0 hts (lw_V q1830 q1832 qs64 q90 q1833) rfl rfl rfl (by decide +kernel) ⟨Nat.le_of_ble_eq_true rfl, Nat.le_of_ble_eq_true rfl⟩) (m_rec F hO hS) rfl hl.1 rfl (Nat.le_of_ble_eq_true rfl) dX3_law_118 ⟨Nat.le_refl 0, Nat.le_refl 0⟩ (fun r85 s84 H locs h hS => ?_)
        refine lv_bipush (v := 48) hx hb dX3_law_121 (by decide) ?_
        refine lv_isub hx hb dX3_law_123 ?_
        refine lv_ishr hx hb dX3_law_124 ?_
        refine lv_if_ne (tgt := 153) hx hb dX3_law_125 (by decide) (fun c86 => ?_) (fun c86 => ?_)
        · have h := h.1 c86
          exact (kM_law_J153 F hO) s84 x20 x21 H locs ls hS (lv_sub hl [0, 1, 2] rfl) h
        · have h := h.2 c86
          refine lv_iload_n hx hb dX3_law_128 rfl (lv_at hl 2 rfl) ?_
          refine lv_iconst (v := 1) hx hb dX3_law_129 (by decide) ?_
          refine lv_aload_n hx hb dX3_law_130 rfl (lv_at hl 0 rfl) ?_
          refine gw_callVi (As := []) (rest := [.int 1, .int x21]) F hS (tM_next l g hO s84 _ h) (cwV 0 hts (lw_V q1830 q1832 qs64 q90 q1833) rfl rfl rfl (by decide +kernel) ⟨Nat.le_of_ble_eq_true rfl, Nat.le_of_ble_eq_true rfl⟩) (m_rec F hO hS) rfl hl.1 rfl (Nat.le_of_ble_eq_true rfl) dX3_law_131 ⟨Nat.le_refl 0, Nat.le_refl 0⟩ (fun r88 s87 H locs h hS => ?_)
          refine lv_bipush (v := 48) hx hb dX3_law_134 (by decide) ?_
          refine lv_isub hx hb dX3_law_136 ?_
          refine lv_ishl hx hb dX3_law_137 ?_
          refine lv_ior hx hb dX3_law_138 ?_
          refine lv_topi (fun x89 ex89 => ?_)
          have h := h x89 ex89
          refine lv_istore_n (lv' := [(3, .int x89), (0, .ref (mad g 62)), (2, .int x20)]) hx hb dX3_law_139 rfl hl (by decide) rfl (fun ls hl => ?_)
          refine lv_aload_n hx hb dX3_law_140 rfl (lv_at hl 1 rfl) ?_
          refine lv_dup hx hb dX3_law_141 rfl ?_
          refine m_geti F hO hS 44 (by decide) rfl q1441 dX3_law_142 ?_
          refine lv_iconst (v := 1) hx hb dX3_law_145 (by decide) ?_
          refine lv_iadd hx hb dX3_law_146 ?_
          refine m_puti F hO hS 44 (by decide) rfl q1441 rfl (by decide +kernel) dX3_law_147 (fun s90 es90 H locs hS => ?_)
          have h := h s90 es90
          refine lv_goto (tgt := 92) hx hb dX3_law_150 (by decide) ?_
          exact ih s90 x20 x89 H locs ls hS (lv_sub hl [1, 2, 0] rfl) h
set_option maxHeartbeats 4000000 in
set_option maxRecDepth 100000 in
theorem kM_law {p : Program} {l : Launch} {e : Env} {s : State} {m : MethodId} {args : Array Value} {below : List Frame} {meth : Method} {c : Code} {g : MG} {post : Int32 → MS → Prop} (F : gFx p s m c meth args cX3_law 4 RX3 (some .int) (mD g) (mcl g) (mty g)) (hO : MOK g) (σ : MS) (H : Heap) (locs : List Loc) (ls : Array Slot) (hS : gSt (MWd g) (MA g) s σ H locs) (hl : lv_has ls 4 [(0, .ref (mad g 62))]) (h : wM_law post σ) : W p l e rM_law s m args below meth c H locs 0 0 (MQ below (va_Qi post (gB (MWd g)) (MA g)) args s 0 0 (MA g)) (F0 m 0 ls []) := by
  have hx := F.hx
  have hb := F.hb
  have hts := F.1.2.2.2.2
  have hown := F.1.2.2.2.1
  rw [wM_law] at h
  refine lv_aload_n hx hb dX3_law_0 rfl (lv_at hl 0 rfl) ?_
  refine lv_iconst (v := 0) hx hb dX3_law_1 (by decide) ?_
  refine m_puti F hO hS 44 (by decide) rfl q1441 rfl (by decide +kernel) dX3_law_2 (fun s1 es1 H locs hS => ?_)
  have h := h s1 es1
  refine lv_aload_n hx hb dX3_law_5 rfl (lv_at hl 0 rfl) ?_
  refine lv_iconst (v := 0) hx hb dX3_law_6 (by decide) ?_
  refine m_putz F hO hS 45 (by decide) rfl q1442 rfl (by decide +kernel) bz0 dX3_law_7 (fun s2 es2 H locs hS => ?_)
  have h := h s2 es2
  refine lv_aload_n hx hb dX3_law_10 rfl (lv_at hl 0 rfl) ?_
  refine lv_iconst (v := 0) hx hb dX3_law_11 (by decide) ?_
  refine m_puti F hO hS 46 (by decide) rfl q1443 rfl (by decide +kernel) dX3_law_12 (fun s3 es3 H locs hS => ?_)
  have h := h s3 es3
  refine lv_aload_n hx hb dX3_law_15 rfl (lv_at hl 0 rfl) ?_
  refine gw_callVi (As := []) (rest := []) F hS (tM_next l g hO s3 _ h) (cwV 0 hts (lw_V q1830 q1832 qs64 q90 q1833) rfl rfl rfl (by decide +kernel) ⟨Nat.le_of_ble_eq_true rfl, Nat.le_of_ble_eq_true rfl⟩) (m_rec F hO hS) rfl hl.1 rfl (Nat.le_of_ble_eq_true rfl) dX3_law_16 ⟨Nat.le_refl 0, Nat.le_refl 0⟩ (fun r5 s4 H locs h hS => ?_)
  refine lv_istore_n (lv' := [(1, .int r5), (0, .ref (mad g 62))]) hx hb dX3_law_19 rfl hl (by decide) rfl (fun ls hl => ?_)
  refine lv_iload_n hx hb dX3_law_20 rfl (lv_at hl 0 rfl) ?_
  refine lv_bipush (v := 116) hx hb dX3_law_21 (by decide) ?_
  refine gcut (P := ∀ (v8 : Int32) (H : Heap) (locs : List Loc) (ls : Array Slot), v8 = (if r5 = 116 then 0 else if r5 = 114 then 1 else 2) → gSt (MWd g) (MA g) s s4 H locs → lv_has ls 4 [(0, .ref (mad g 62)), (1, .int r5)] → W p l e rM_law s m args below meth c H locs 0 0 (MQ below (va_Qi post (gB (MWd g)) (MA g)) args s 0 0 (MA g)) (F0 m 41 ls [.int v8])) (fun v8 H locs ls ev8 hS hl => ?_) (fun J9 => ?_)
  · have h := h v8 ev8
    refine lv_istore_n (lv' := [(2, .int v8), (0, .ref (mad g 62)), (1, .int r5)]) hx hb dX3_law_41 rfl hl (by decide) rfl (fun ls hl => ?_)
    refine lv_aload_n hx hb dX3_law_42 rfl (lv_at hl 1 rfl) ?_
    refine lv_iload_n hx hb dX3_law_43 rfl (lv_at hl 2 rfl) ?_
    refine lv_bipush (v := 116) hx hb dX3_law_44 (by decide) ?_
    refine gcut (P := ∀ (v13 : Int32) (H : Heap) (locs : List Loc) (ls : Array Slot), v13 = (if r5 = 116 then 0 else if r5 = 114 then 0 else if r5 = 99 then 0 else 1) → gSt (MWd g) (MA g) s s4 H locs → lv_has ls 4 [(0, .ref (mad g 62)), (2, .int v8)] → W p l e rM_law s m args below meth c H locs 0 0 (MQ below (va_Qi post (gB (MWd g)) (MA g)) args s 0 0 (MA g)) (F0 m 66 ls [.int v13, .ref (mad g 62)])) (fun v13 H locs ls ev13 hS hl => ?_) (fun J14 => ?_)
    · have h := h v13 ev13
      refine m_putz F hO hS 45 (by decide) rfl q1442 rfl (by decide +kernel) (by rw [ev13]; exact (bz_ite bz0 (bz_ite bz0 (bz_ite bz0 bz1)))) dX3_law_66 (fun s15 es15 H locs hS => ?_)
      have h := h s15 es15
      refine lv_aload_n hx hb dX3_law_69 rfl (lv_at hl 0 rfl) ?_
      refine lv_dup hx hb dX3_law_70 rfl ?_
      refine m_geti F hO hS 44 (by decide) rfl q1441 dX3_law_71 ?_
      refine lv_aload_n hx hb dX3_law_74 rfl (lv_at hl 0 rfl) ?_
      refine m_geti F hO hS 45 (by decide) rfl q1442 dX3_law_75 ?_
      refine gcut (P := ∀ (v17 : Int32) (H : Heap) (locs : List Loc) (ls : Array Slot), v17 = (if (s15 45 0) = 0 then 1 else 0) → gSt (MWd g) (MA g) s s15 H locs → lv_has ls 4 [(0, .ref (mad g 62)), (2, .int v8)] → W p l e rM_law s m args below meth c H locs 0 0 (MQ below (va_Qi post (gB (MWd g)) (MA g)) args s 0 0 (MA g)) (F0 m 86 ls [.int v17, .int (s15 44 0), .ref (mad g 62)])) (fun v17 H locs ls ev17 hS hl => ?_) (fun J18 => ?_)
      · have h := h v17 ev17
        refine lv_iadd hx hb dX3_law_86 ?_
        refine m_puti F hO hS 44 (by decide) rfl q1441 rfl (by decide +kernel) dX3_law_87 (fun s19 es19 H locs hS => ?_)
        have h := h s19 es19
        refine lv_iconst (v := 0) hx hb dX3_law_90 (by decide) ?_
        refine lv_istore_n (lv' := [(3, .int 0), (0, .ref (mad g 62)), (2, .int v8)]) hx hb dX3_law_91 rfl hl (by decide) rfl (fun ls hl => ?_)
        obtain ⟨n91, h⟩ := h
        exact (kM_law_L92 F hO n91) s19 v8 0 H locs ls hS (lv_sub hl [1, 2, 0] rfl) h
      · refine lv_if_eq (tgt := 85) hx hb dX3_law_78 (by decide) (fun c16 => ?_) (fun c16 => ?_)
        · refine lv_iconst (v := 1) hx hb dX3_law_85 (by decide) ?_
          exact J18 _ H locs ls (by first | with_reducible rfl | ((try rw [if_pos c16]); done)) hS (lv_sub hl [0, 1] rfl)
        · refine lv_iconst (v := 0) hx hb dX3_law_81 (by decide) ?_
          refine lv_goto (tgt := 86) hx hb dX3_law_82 (by decide) ?_
          exact J18 _ H locs ls (by first | with_reducible rfl | ((try rw [if_neg c16]); done)) hS (lv_sub hl [0, 1] rfl)
    · refine lv_icmp_eq (tgt := 65) hx hb dX3_law_46 (by decide) (fun c10 => ?_) (fun c10 => ?_)
      · refine lv_iconst (v := 0) hx hb dX3_law_65 (by decide) ?_
        exact J14 _ H locs ls (by first | with_reducible rfl | ((try rw [if_pos c10]); done)) hS (lv_sub hl [1, 0] rfl)
      · refine lv_iload_n hx hb dX3_law_49 rfl (lv_at hl 2 rfl) ?_
        refine lv_bipush (v := 114) hx hb dX3_law_50 (by decide) ?_
        refine lv_icmp_eq (tgt := 65) hx hb dX3_law_52 (by decide) (fun c11 => ?_) (fun c11 => ?_)
        · refine lv_iconst (v := 0) hx hb dX3_law_65 (by decide) ?_
          exact J14 _ H locs ls (by first | with_reducible rfl | ((try rw [if_neg c10]); (try rw [if_pos c11]); done)) hS (lv_sub hl [1, 0] rfl)
        · refine lv_iload_n hx hb dX3_law_55 rfl (lv_at hl 2 rfl) ?_
          refine lv_bipush (v := 99) hx hb dX3_law_56 (by decide) ?_
          refine lv_icmp_eq (tgt := 65) hx hb dX3_law_58 (by decide) (fun c12 => ?_) (fun c12 => ?_)
          · refine lv_iconst (v := 0) hx hb dX3_law_65 (by decide) ?_
            exact J14 _ H locs ls (by first | with_reducible rfl | ((try rw [if_neg c10]); (try rw [if_neg c11]); (try rw [if_pos c12]); done)) hS (lv_sub hl [1, 0] rfl)
          · refine lv_iconst (v := 1) hx hb dX3_law_61 (by decide) ?_
            refine lv_goto (tgt := 66) hx hb dX3_law_62 (by decide) ?_
            exact J14 _ H locs ls (by first | with_reducible rfl | ((try rw [if_neg c10]); (try rw [if_neg c11]); (try rw [if_neg c12]); done)) hS (lv_sub hl [1, 0] rfl)
  · refine lv_icmp_ne (tgt := 30) hx hb dX3_law_23 (by decide) (fun c6 => ?_) (fun c6 => ?_)
    · refine lv_iload_n hx hb dX3_law_30 rfl (lv_at hl 0 rfl) ?_
      refine lv_bipush (v := 114) hx hb dX3_law_31 (by decide) ?_
      refine lv_icmp_ne (tgt := 40) hx hb dX3_law_33 (by decide) (fun c7 => ?_) (fun c7 => ?_)
      · refine lv_iconst (v := 2) hx hb dX3_law_40 (by decide) ?_
        exact J9 _ H locs ls (by first | with_reducible rfl | ((try rw [if_neg c6]); (try rw [if_neg c7]); done)) hS (lv_sub hl [1, 0] rfl)
      · refine lv_iconst (v := 1) hx hb dX3_law_36 (by decide) ?_
        refine lv_goto (tgt := 41) hx hb dX3_law_37 (by decide) ?_
        exact J9 _ H locs ls (by first | with_reducible rfl | ((try rw [if_neg c6]); (try rw [if_pos c7]); done)) hS (lv_sub hl [1, 0] rfl)
    · refine lv_iconst (v := 0) hx hb dX3_law_26 (by decide) ?_
      refine lv_goto (tgt := 41) hx hb dX3_law_27 (by decide) ?_
      exact J9 _ H locs ls (by first | with_reducible rfl | ((try rw [if_pos c6]); done)) hS (lv_sub hl [1, 0] rfl)
set_option maxHeartbeats 4000000 in
set_option maxRecDepth 100000 in
theorem tM_law (l : Launch) (g : MG) (hO : MOK g) (σ : MS) (post : Int32 → MS → Prop) (h : wM_law post σ) : Met l yX3_law (ws_ yX3_law cX3_law 4 (some .int)) rM_law (va_Pc [.ref (mad g 62)] (gPre (MWd g) (mD g) (mcl g) (mty g) σ)) (va_Qi post (gB (MWd g)) (MA g)) 0 0 (MA g) := by
  refine Met.ofW (cc := cX3_law) (maxL := 4) (ret := (some .int)) (by decide) rfl ?_
  intro p e s m args below meth c s₁ B hml hv
  obtain ⟨rfl, hW, hK⟩ := hv
  have hts := atoms_spec (ws := (ws_ yX3_law cX3_law 4 (some .int))) B.pre
  have hts : ∀ w ∈ lw_all, w.before _ s = true := fun w h => hts w (List.mem_cons_of_mem _ h)
  have hl := lv_entry ([.ref (mad g 62)]) (n := 4) (Nat.le_of_ble_eq_true rfl)
  rw [lg_entry_eq]
  generalize (lg_sl ([.ref (mad g 62)]) ++ List.replicate (4 - (lg_sl ([.ref (mad g 62)])).length) Slot.unset).toArray = ls at hl ⊢
  exact kM_law ⟨⟨B.exec, B.bytes, hml, findClass_of_methodNamed B.named, hts⟩, hK, B.returns, B.notSynchronized⟩ hO σ s.heap [] ls ⟨hW, va_S.rf⟩ hl h
def wM_isLaw (post : Int32 → MS → Prop) (σ : MS) (a1 : Int32) : Prop := wM_in (fun r2 s1 => post r2 s1) σ a1.toInt64 0 (((σ 33 0) - 1).toInt64)
abbrev rM_isLaw : Room := { frames := 1, cells := 0, slots := 0, locals := 25 }
set_option maxHeartbeats 4000000 in
set_option maxRecDepth 100000 in
theorem kM_isLaw {p : Program} {l : Launch} {e : Env} {s : State} {m : MethodId} {args : Array Value} {below : List Frame} {meth : Method} {c : Code} {g : MG} {post : Int32 → MS → Prop} (F : gFx p s m c meth args cX3_isLaw 2 RX3 (some .boolean) (mD g) (mcl g) (mty g)) (hO : MOK g) (σ : MS) (a1 : Int32) (H : Heap) (locs : List Loc) (ls : Array Slot) (hS : gSt (MWd g) (MA g) s σ H locs) (hl : lv_has ls 2 [(0, .ref (mad g 62)), (1, .int a1)]) (h : wM_isLaw post σ a1) : W p l e rM_isLaw s m args below meth c H locs 0 0 (MQ below (va_Qi (zpost post) (gB (MWd g)) (MA g)) args s 0 0 (MA g)) (F0 m 0 ls []) := by
  have hx := F.hx
  have hb := F.hb
  have hts := F.1.2.2.2.2
  have hown := F.1.2.2.2.1
  rw [wM_isLaw] at h
  refine lv_iload_n hx hb dX3_isLaw_0 rfl (lv_at hl 1 rfl) ?_
  refine lv_i2l hx hb dX3_isLaw_1 rfl ?_
  refine lv_lconst (v := 0) hx hb dX3_isLaw_2 (by decide) ?_
  refine lv_aload_n hx hb dX3_isLaw_3 rfl (lv_at hl 0 rfl) ?_
  refine m_geti F hO hS 33 (by decide) rfl q1430 dX3_isLaw_4 ?_
  refine lv_iconst (v := 1) hx hb dX3_isLaw_7 (by decide) ?_
  refine lv_isub hx hb dX3_isLaw_8 ?_
  refine lv_i2l hx hb dX3_isLaw_9 rfl ?_
  refine gw_callSi (As := [.long a1.toInt64, .long 0, .long (((σ 33 0) - 1).toInt64)]) (rest := []) F hS (tM_in l g hO σ a1.toInt64 0 (((σ 33 0) - 1).toInt64) _ h) (va_cwS 3 hts (lw_S q1593 q1594 q90 q1595) rfl rfl rfl (by decide +kernel) ⟨Nat.le_of_ble_eq_true rfl, Nat.le_of_ble_eq_true rfl⟩) rfl hl.1 rfl (Nat.le_of_ble_eq_true rfl) dX3_isLaw_10 ⟨Nat.le_refl 0, Nat.le_refl 0⟩ (fun r2 s1 H locs h hS => ?_)
  obtain ⟨zr2, h⟩ := h
  exact gw_zret F hS zr2 h dX3_isLaw_13
set_option maxHeartbeats 4000000 in
set_option maxRecDepth 100000 in
theorem tM_isLaw (l : Launch) (g : MG) (hO : MOK g) (σ : MS) (a1 : Int32) (post : Int32 → MS → Prop) (h : wM_isLaw post σ a1) : Met l yX3_isLaw (ws_ yX3_isLaw cX3_isLaw 2 (some .boolean)) rM_isLaw (va_Pc [.ref (mad g 62), .int a1] (gPre (MWd g) (mD g) (mcl g) (mty g) σ)) (va_Qi (zpost post) (gB (MWd g)) (MA g)) 0 0 (MA g) := by
  refine Met.ofW (cc := cX3_isLaw) (maxL := 2) (ret := (some .boolean)) (by decide) rfl ?_
  intro p e s m args below meth c s₁ B hml hv
  obtain ⟨rfl, hW, hK⟩ := hv
  have hts := atoms_spec (ws := (ws_ yX3_isLaw cX3_isLaw 2 (some .boolean))) B.pre
  have hts : ∀ w ∈ lw_all, w.before _ s = true := fun w h => hts w (List.mem_cons_of_mem _ h)
  have hl := lv_entry ([.ref (mad g 62), .int a1]) (n := 2) (Nat.le_of_ble_eq_true rfl)
  rw [lg_entry_eq]
  generalize (lg_sl ([.ref (mad g 62), .int a1]) ++ List.replicate (2 - (lg_sl ([.ref (mad g 62), .int a1])).length) Slot.unset).toArray = ls at hl ⊢
  exact kM_isLaw ⟨⟨B.exec, B.bytes, hml, findClass_of_methodNamed B.named, hts⟩, hK, B.returns, B.notSynchronized⟩ hO σ a1 s.heap [] ls ⟨hW, va_S.rf⟩ hl h
def wM_isDay (post : Int32 → MS → Prop) (σ : MS) (a0 : Int32) : Prop := wM_in (fun r2 s1 => post r2 s1) σ a0.toInt64 0 416
abbrev rM_isDay : Room := { frames := 1, cells := 0, slots := 0, locals := 25 }
set_option maxHeartbeats 4000000 in
set_option maxRecDepth 100000 in
theorem kM_isDay {p : Program} {l : Launch} {e : Env} {s : State} {m : MethodId} {args : Array Value} {below : List Frame} {meth : Method} {c : Code} {g : MG} {post : Int32 → MS → Prop} (F : gFx p s m c meth args cX3_isDay 1 RX3 (some .boolean) (mD g) (mcl g) (mty g)) (hO : MOK g) (σ : MS) (a0 : Int32) (H : Heap) (locs : List Loc) (ls : Array Slot) (hS : gSt (MWd g) (MA g) s σ H locs) (hl : lv_has ls 1 [(0, .int a0)]) (h : wM_isDay post σ a0) : W p l e rM_isDay s m args below meth c H locs 0 0 (MQ below (va_Qi (zpost post) (gB (MWd g)) (MA g)) args s 0 0 (MA g)) (F0 m 0 ls []) := by
  have hx := F.hx
  have hb := F.hb
  have hts := F.1.2.2.2.2
  have hown := F.1.2.2.2.1
  rw [wM_isDay] at h
  refine lv_iload_n hx hb dX3_isDay_0 rfl (lv_at hl 0 rfl) ?_
  refine lv_i2l hx hb dX3_isDay_1 rfl ?_
  refine lv_lconst (v := 0) hx hb dX3_isDay_2 (by decide) ?_
  refine lv_ldc2 (v := 416) hx hb hown (hts _ q1876) dX3_isDay_3 ?_
  refine gw_callSi (As := [.long a0.toInt64, .long 0, .long 416]) (rest := []) F hS (tM_in l g hO σ a0.toInt64 0 416 _ h) (va_cwS 3 hts (lw_S q1593 q1594 q90 q1595) rfl rfl rfl (by decide +kernel) ⟨Nat.le_of_ble_eq_true rfl, Nat.le_of_ble_eq_true rfl⟩) rfl hl.1 rfl (Nat.le_of_ble_eq_true rfl) dX3_isDay_6 ⟨Nat.le_refl 0, Nat.le_refl 0⟩ (fun r2 s1 H locs h hS => ?_)
  obtain ⟨zr2, h⟩ := h
  exact gw_zret F hS zr2 h dX3_isDay_9
set_option maxHeartbeats 4000000 in
set_option maxRecDepth 100000 in
theorem tM_isDay (l : Launch) (g : MG) (hO : MOK g) (σ : MS) (a0 : Int32) (post : Int32 → MS → Prop) (h : wM_isDay post σ a0) : Met l yX3_isDay (ws_ yX3_isDay cX3_isDay 1 (some .boolean)) rM_isDay (va_Pc [.int a0] (gPre (MWd g) (mD g) (mcl g) (mty g) σ)) (va_Qi (zpost post) (gB (MWd g)) (MA g)) 0 0 (MA g) := by
  refine Met.ofW (cc := cX3_isDay) (maxL := 1) (ret := (some .boolean)) (by decide) rfl ?_
  intro p e s m args below meth c s₁ B hml hv
  obtain ⟨rfl, hW, hK⟩ := hv
  have hts := atoms_spec (ws := (ws_ yX3_isDay cX3_isDay 1 (some .boolean))) B.pre
  have hts : ∀ w ∈ lw_all, w.before _ s = true := fun w h => hts w (List.mem_cons_of_mem _ h)
  have hl := lv_entry ([.int a0]) (n := 1) (Nat.le_of_ble_eq_true rfl)
  rw [lg_entry_eq]
  generalize (lg_sl ([.int a0]) ++ List.replicate (1 - (lg_sl ([.int a0])).length) Slot.unset).toArray = ls at hl ⊢
  exact kM_isDay ⟨⟨B.exec, B.bytes, hml, findClass_of_methodNamed B.named, hts⟩, hK, B.returns, B.notSynchronized⟩ hO σ a0 s.heap [] ls ⟨hW, va_S.rf⟩ hl h
def wM_force (post : Int32 → MS → Prop) (σ : MS) (a1 : Int32) (a2 : Int32) (a3 : Int32) : Prop := wM_isLaw (fun r2 s1 => (r2 = 0 → post (-1) s1) ∧ (¬ (r2 = 0) → wM_isDay (fun r5 s4 => (r5 = 0 → post (-1) s4) ∧ (¬ (r5 = 0) → wM_isDay (fun r8 s7 => (r8 = 0 → post (-1) s7) ∧ (¬ (r8 = 0) → (a2 ≤ a3 → (vp_in a1 16 ∧ ∀ s11 : MS, s11 = up2 s7 37 a1.toNatClampNeg a2 → vp_in a1 16 ∧ ∀ s13 : MS, s13 = up2 s11 38 a1.toNatClampNeg a3 → post 1 s13)) ∧ (¬ (a2 ≤ a3) → post (-1) s7))) s4 a3)) s1 a2)) σ a1
abbrev rM_force : Room := { frames := 2, cells := 0, slots := 0, locals := 46 }
set_option maxHeartbeats 4000000 in
set_option maxRecDepth 100000 in
theorem kM_force {p : Program} {l : Launch} {e : Env} {s : State} {m : MethodId} {args : Array Value} {below : List Frame} {meth : Method} {c : Code} {g : MG} {post : Int32 → MS → Prop} (F : gFx p s m c meth args cX3_force 4 RX3 (some .int) (mD g) (mcl g) (mty g)) (hO : MOK g) (σ : MS) (a1 : Int32) (a2 : Int32) (a3 : Int32) (H : Heap) (locs : List Loc) (ls : Array Slot) (hS : gSt (MWd g) (MA g) s σ H locs) (hl : lv_has ls 4 [(0, .ref (mad g 62)), (1, .int a1), (2, .int a2), (3, .int a3)]) (h : wM_force post σ a1 a2 a3) : W p l e rM_force s m args below meth c H locs 0 0 (MQ below (va_Qi post (gB (MWd g)) (MA g)) args s 0 0 (MA g)) (F0 m 0 ls []) := by
  have hx := F.hx
  have hb := F.hb
  have hts := F.1.2.2.2.2
  have hown := F.1.2.2.2.1
  rw [wM_force] at h
  refine lv_aload_n hx hb dX3_force_0 rfl (lv_at hl 0 rfl) ?_
  refine lv_iload_n hx hb dX3_force_1 rfl (lv_at hl 1 rfl) ?_
  refine gw_callVi (As := [.int a1]) (rest := []) F hS (tM_isLaw l g hO σ a1 _ h) (cwV 1 hts (lw_V q1869 q1871 qs72 q90 q1872) rfl rfl rfl (by decide +kernel) ⟨Nat.le_of_ble_eq_true rfl, Nat.le_of_ble_eq_true rfl⟩) (m_rec F hO hS) rfl hl.1 rfl (Nat.le_of_ble_eq_true rfl) dX3_force_2 ⟨Nat.le_refl 0, Nat.le_refl 0⟩ (fun r2 s1 H locs h hS => ?_)
  obtain ⟨zr2, h⟩ := h
  refine lv_if_eq (tgt := 27) hx hb dX3_force_5 (by decide) (fun c3 => ?_) (fun c3 => ?_)
  · have h := h.1 c3
    refine lv_iconst (v := (-1)) hx hb dX3_force_27 (by decide) ?_
    exact gw_iret F hS h dX3_force_28
  · have h := h.2 c3
    refine lv_iload_n hx hb dX3_force_8 rfl (lv_at hl 2 rfl) ?_
    refine gw_callSi (As := [.int a2]) (rest := []) F hS (tM_isDay l g hO s1 a2 _ h) (va_cwS 1 hts (lw_S q1873 q1874 q90 q1875) rfl rfl rfl (by decide +kernel) ⟨Nat.le_of_ble_eq_true rfl, Nat.le_of_ble_eq_true rfl⟩) rfl hl.1 rfl (Nat.le_of_ble_eq_true rfl) dX3_force_9 ⟨Nat.le_refl 0, Nat.le_refl 0⟩ (fun r5 s4 H locs h hS => ?_)
    obtain ⟨zr5, h⟩ := h
    refine lv_if_eq (tgt := 27) hx hb dX3_force_12 (by decide) (fun c6 => ?_) (fun c6 => ?_)
    · have h := h.1 c6
      refine lv_iconst (v := (-1)) hx hb dX3_force_27 (by decide) ?_
      exact gw_iret F hS h dX3_force_28
    · have h := h.2 c6
      refine lv_iload_n hx hb dX3_force_15 rfl (lv_at hl 3 rfl) ?_
      refine gw_callSi (As := [.int a3]) (rest := []) F hS (tM_isDay l g hO s4 a3 _ h) (va_cwS 1 hts (lw_S q1873 q1874 q90 q1875) rfl rfl rfl (by decide +kernel) ⟨Nat.le_of_ble_eq_true rfl, Nat.le_of_ble_eq_true rfl⟩) rfl hl.1 rfl (Nat.le_of_ble_eq_true rfl) dX3_force_16 ⟨Nat.le_refl 0, Nat.le_refl 0⟩ (fun r8 s7 H locs h hS => ?_)
      obtain ⟨zr8, h⟩ := h
      refine lv_if_eq (tgt := 27) hx hb dX3_force_19 (by decide) (fun c9 => ?_) (fun c9 => ?_)
      · have h := h.1 c9
        refine lv_iconst (v := (-1)) hx hb dX3_force_27 (by decide) ?_
        exact gw_iret F hS h dX3_force_28
      · have h := h.2 c9
        refine lv_iload_n hx hb dX3_force_22 rfl (lv_at hl 3 rfl) ?_
        refine lv_iload_n hx hb dX3_force_23 rfl (lv_at hl 2 rfl) ?_
        refine lv_icmp_ge (tgt := 29) hx hb dX3_force_24 (by decide) (fun c10 => ?_) (fun c10 => ?_)
        · have h := h.1 c10
          refine lv_aload_n hx hb dX3_force_29 rfl (lv_at hl 0 rfl) ?_
          refine m_geta F hO hS 37 (by decide) rfl q1434 dX3_force_30 ?_
          refine lv_iload_n hx hb dX3_force_33 rfl (lv_at hl 1 rfl) ?_
          refine lv_iload_n hx hb dX3_force_34 rfl (lv_at hl 2 rfl) ?_
          obtain ⟨b12, h⟩ := h
          refine m_iast F hO hS 37 30 rfl rfl b12 dX3_force_35 (fun s11 es11 H locs hS => ?_)
          have h := h s11 es11
          refine lv_aload_n hx hb dX3_force_36 rfl (lv_at hl 0 rfl) ?_
          refine m_geta F hO hS 38 (by decide) rfl q1435 dX3_force_37 ?_
          refine lv_iload_n hx hb dX3_force_40 rfl (lv_at hl 1 rfl) ?_
          refine lv_iload_n hx hb dX3_force_41 rfl (lv_at hl 3 rfl) ?_
          obtain ⟨b14, h⟩ := h
          refine m_iast F hO hS 38 31 rfl rfl b14 dX3_force_42 (fun s13 es13 H locs hS => ?_)
          have h := h s13 es13
          refine lv_iconst (v := 1) hx hb dX3_force_43 (by decide) ?_
          exact gw_iret F hS h dX3_force_44
        · have h := h.2 c10
          refine lv_iconst (v := (-1)) hx hb dX3_force_27 (by decide) ?_
          exact gw_iret F hS h dX3_force_28
set_option maxHeartbeats 4000000 in
set_option maxRecDepth 100000 in
theorem tM_force (l : Launch) (g : MG) (hO : MOK g) (σ : MS) (a1 : Int32) (a2 : Int32) (a3 : Int32) (post : Int32 → MS → Prop) (h : wM_force post σ a1 a2 a3) : Met l yX3_force (ws_ yX3_force cX3_force 4 (some .int)) rM_force (va_Pc [.ref (mad g 62), .int a1, .int a2, .int a3] (gPre (MWd g) (mD g) (mcl g) (mty g) σ)) (va_Qi post (gB (MWd g)) (MA g)) 0 0 (MA g) := by
  refine Met.ofW (cc := cX3_force) (maxL := 4) (ret := (some .int)) (by decide) rfl ?_
  intro p e s m args below meth c s₁ B hml hv
  obtain ⟨rfl, hW, hK⟩ := hv
  have hts := atoms_spec (ws := (ws_ yX3_force cX3_force 4 (some .int))) B.pre
  have hts : ∀ w ∈ lw_all, w.before _ s = true := fun w h => hts w (List.mem_cons_of_mem _ h)
  have hl := lv_entry ([.ref (mad g 62), .int a1, .int a2, .int a3]) (n := 4) (Nat.le_of_ble_eq_true rfl)
  rw [lg_entry_eq]
  generalize (lg_sl ([.ref (mad g 62), .int a1, .int a2, .int a3]) ++ List.replicate (4 - (lg_sl ([.ref (mad g 62), .int a1, .int a2, .int a3])).length) Slot.unset).toArray = ls at hl ⊢
  exact kM_force ⟨⟨B.exec, B.bytes, hml, findClass_of_methodNamed B.named, hts⟩, hK, B.returns, B.notSynchronized⟩ hO σ a1 a2 a3 s.heap [] ls ⟨hW, va_S.rf⟩ hl h
def wM_strike (post : Int32 → MS → Prop) (σ : MS) (a1 : Int32) (a2 : Int32) : Prop := wM_isLaw (fun r2 s1 => (r2 = 0 → post (-1) s1) ∧ (¬ (r2 = 0) → wM_isDay (fun r5 s4 => (¬ (r5 = 0) → (vp_in a1 16 ∧ (417 ≤ (s4 39 a1.toNatClampNeg) → (vp_in a1 16 ∧ ∀ s9 : MS, s9 = up2 s4 39 a1.toNatClampNeg a2 → post 1 s9)) ∧ (¬ (417 ≤ (s4 39 a1.toNatClampNeg)) → post (-2) s4))) ∧ (r5 = 0 → post (-1) s4)) s1 a2)) σ a1
abbrev rM_strike : Room := { frames := 2, cells := 0, slots := 0, locals := 46 }
set_option maxHeartbeats 4000000 in
set_option maxRecDepth 100000 in
theorem kM_strike {p : Program} {l : Launch} {e : Env} {s : State} {m : MethodId} {args : Array Value} {below : List Frame} {meth : Method} {c : Code} {g : MG} {post : Int32 → MS → Prop} (F : gFx p s m c meth args cX3_strike 3 RX3 (some .int) (mD g) (mcl g) (mty g)) (hO : MOK g) (σ : MS) (a1 : Int32) (a2 : Int32) (H : Heap) (locs : List Loc) (ls : Array Slot) (hS : gSt (MWd g) (MA g) s σ H locs) (hl : lv_has ls 3 [(0, .ref (mad g 62)), (1, .int a1), (2, .int a2)]) (h : wM_strike post σ a1 a2) : W p l e rM_strike s m args below meth c H locs 0 0 (MQ below (va_Qi post (gB (MWd g)) (MA g)) args s 0 0 (MA g)) (F0 m 0 ls []) := by
  have hx := F.hx
  have hb := F.hb
  have hts := F.1.2.2.2.2
  have hown := F.1.2.2.2.1
  rw [wM_strike] at h
  refine lv_aload_n hx hb dX3_strike_0 rfl (lv_at hl 0 rfl) ?_
  refine lv_iload_n hx hb dX3_strike_1 rfl (lv_at hl 1 rfl) ?_
  refine gw_callVi (As := [.int a1]) (rest := []) F hS (tM_isLaw l g hO σ a1 _ h) (cwV 1 hts (lw_V q1869 q1871 qs72 q90 q1872) rfl rfl rfl (by decide +kernel) ⟨Nat.le_of_ble_eq_true rfl, Nat.le_of_ble_eq_true rfl⟩) (m_rec F hO hS) rfl hl.1 rfl (Nat.le_of_ble_eq_true rfl) dX3_strike_2 ⟨Nat.le_refl 0, Nat.le_refl 0⟩ (fun r2 s1 H locs h hS => ?_)
  obtain ⟨zr2, h⟩ := h
  refine lv_if_eq (tgt := 15) hx hb dX3_strike_5 (by decide) (fun c3 => ?_) (fun c3 => ?_)
  · have h := h.1 c3
    refine lv_iconst (v := (-1)) hx hb dX3_strike_15 (by decide) ?_
    exact gw_iret F hS h dX3_strike_16
  · have h := h.2 c3
    refine lv_iload_n hx hb dX3_strike_8 rfl (lv_at hl 2 rfl) ?_
    refine gw_callSi (As := [.int a2]) (rest := []) F hS (tM_isDay l g hO s1 a2 _ h) (va_cwS 1 hts (lw_S q1873 q1874 q90 q1875) rfl rfl rfl (by decide +kernel) ⟨Nat.le_of_ble_eq_true rfl, Nat.le_of_ble_eq_true rfl⟩) rfl hl.1 rfl (Nat.le_of_ble_eq_true rfl) dX3_strike_9 ⟨Nat.le_refl 0, Nat.le_refl 0⟩ (fun r5 s4 H locs h hS => ?_)
    obtain ⟨zr5, h⟩ := h
    refine lv_if_ne (tgt := 17) hx hb dX3_strike_12 (by decide) (fun c6 => ?_) (fun c6 => ?_)
    · have h := h.1 c6
      refine lv_aload_n hx hb dX3_strike_17 rfl (lv_at hl 0 rfl) ?_
      refine m_geta F hO hS 39 (by decide) rfl q1436 dX3_strike_18 ?_
      refine lv_iload_n hx hb dX3_strike_21 rfl (lv_at hl 1 rfl) ?_
      obtain ⟨b7, h⟩ := h
      refine m_iald F hS 39 32 rfl rfl b7 dX3_strike_22 ?_
      refine lv_sipush (v := 417) hx hb dX3_strike_23 (by decide) ?_
      refine lv_icmp_ge (tgt := 32) hx hb dX3_strike_26 (by decide) (fun c8 => ?_) (fun c8 => ?_)
      · have h := h.1 c8
        refine lv_aload_n hx hb dX3_strike_32 rfl (lv_at hl 0 rfl) ?_
        refine m_geta F hO hS 39 (by decide) rfl q1436 dX3_strike_33 ?_
        refine lv_iload_n hx hb dX3_strike_36 rfl (lv_at hl 1 rfl) ?_
        refine lv_iload_n hx hb dX3_strike_37 rfl (lv_at hl 2 rfl) ?_
        obtain ⟨b10, h⟩ := h
        refine m_iast F hO hS 39 32 rfl rfl b10 dX3_strike_38 (fun s9 es9 H locs hS => ?_)
        have h := h s9 es9
        refine lv_iconst (v := 1) hx hb dX3_strike_39 (by decide) ?_
        exact gw_iret F hS h dX3_strike_40
      · have h := h.2 c8
        refine lv_bipush (v := (-2)) hx hb dX3_strike_29 (by decide) ?_
        exact gw_iret F hS h dX3_strike_31
    · have h := h.2 c6
      refine lv_iconst (v := (-1)) hx hb dX3_strike_15 (by decide) ?_
      exact gw_iret F hS h dX3_strike_16
set_option maxHeartbeats 4000000 in
set_option maxRecDepth 100000 in
theorem tM_strike (l : Launch) (g : MG) (hO : MOK g) (σ : MS) (a1 : Int32) (a2 : Int32) (post : Int32 → MS → Prop) (h : wM_strike post σ a1 a2) : Met l yX3_strike (ws_ yX3_strike cX3_strike 3 (some .int)) rM_strike (va_Pc [.ref (mad g 62), .int a1, .int a2] (gPre (MWd g) (mD g) (mcl g) (mty g) σ)) (va_Qi post (gB (MWd g)) (MA g)) 0 0 (MA g) := by
  refine Met.ofW (cc := cX3_strike) (maxL := 3) (ret := (some .int)) (by decide) rfl ?_
  intro p e s m args below meth c s₁ B hml hv
  obtain ⟨rfl, hW, hK⟩ := hv
  have hts := atoms_spec (ws := (ws_ yX3_strike cX3_strike 3 (some .int))) B.pre
  have hts : ∀ w ∈ lw_all, w.before _ s = true := fun w h => hts w (List.mem_cons_of_mem _ h)
  have hl := lv_entry ([.ref (mad g 62), .int a1, .int a2]) (n := 3) (Nat.le_of_ble_eq_true rfl)
  rw [lg_entry_eq]
  generalize (lg_sl ([.ref (mad g 62), .int a1, .int a2]) ++ List.replicate (3 - (lg_sl ([.ref (mad g 62), .int a1, .int a2])).length) Slot.unset).toArray = ls at hl ⊢
  exact kM_strike ⟨⟨B.exec, B.bytes, hml, findClass_of_methodNamed B.named, hts⟩, hK, B.returns, B.notSynchronized⟩ hO σ a1 a2 s.heap [] ls ⟨hW, va_S.rf⟩ hl h
def wM_why (post : Int32 → MS → Prop) (σ : MS) (a1 : Int32) (a2 : Int32) (a3 : Int32) (a4 : Int32) : Prop := wM_in (fun r2 s1 => (r2 = 0 → post (-1) s1) ∧ (¬ (r2 = 0) → wM_isPerson (fun r5 s4 => (r5 = 0 → post (-1) s4) ∧ (¬ (r5 = 0) → wM_isPlace (fun r8 s7 => (r8 = 0 → post (-1) s7) ∧ (¬ (r8 = 0) → wM_isDay (fun r11 s10 => (r11 = 0 → post (-1) s10) ∧ (¬ (r11 = 0) → wM_whyOf (fun r14 s13 => post r14 s13) s10 a1 a2 a3 a4)) s7 a4)) s4 a3)) s1 a2)) σ a1.toInt64 0 2
abbrev rM_why : Room := { frames := 4, cells := 0, slots := 0, locals := 101 }
set_option maxHeartbeats 4000000 in
set_option maxRecDepth 100000 in
theorem kM_why {p : Program} {l : Launch} {e : Env} {s : State} {m : MethodId} {args : Array Value} {below : List Frame} {meth : Method} {c : Code} {g : MG} {post : Int32 → MS → Prop} (F : gFx p s m c meth args cX3_why 5 RX3 (some .int) (mD g) (mcl g) (mty g)) (hO : MOK g) (σ : MS) (a1 : Int32) (a2 : Int32) (a3 : Int32) (a4 : Int32) (H : Heap) (locs : List Loc) (ls : Array Slot) (hS : gSt (MWd g) (MA g) s σ H locs) (hl : lv_has ls 5 [(0, .ref (mad g 62)), (1, .int a1), (2, .int a2), (3, .int a3), (4, .int a4)]) (h : wM_why post σ a1 a2 a3 a4) : W p l e rM_why s m args below meth c H locs 0 0 (MQ below (va_Qi post (gB (MWd g)) (MA g)) args s 0 0 (MA g)) (F0 m 0 ls []) := by
  have hx := F.hx
  have hb := F.hb
  have hts := F.1.2.2.2.2
  have hown := F.1.2.2.2.1
  rw [wM_why] at h
  refine lv_iload_n hx hb dX3_why_0 rfl (lv_at hl 1 rfl) ?_
  refine lv_i2l hx hb dX3_why_1 rfl ?_
  refine lv_lconst (v := 0) hx hb dX3_why_2 (by decide) ?_
  refine lv_ldc2 (v := 2) hx hb hown (hts _ q1885) dX3_why_3 ?_
  refine gw_callSi (As := [.long a1.toInt64, .long 0, .long 2]) (rest := []) F hS (tM_in l g hO σ a1.toInt64 0 2 _ h) (va_cwS 3 hts (lw_S q1593 q1594 q90 q1595) rfl rfl rfl (by decide +kernel) ⟨Nat.le_of_ble_eq_true rfl, Nat.le_of_ble_eq_true rfl⟩) rfl hl.1 rfl (Nat.le_of_ble_eq_true rfl) dX3_why_6 ⟨Nat.le_refl 0, Nat.le_refl 0⟩ (fun r2 s1 H locs h hS => ?_)
  obtain ⟨zr2, h⟩ := h
  refine lv_if_eq (tgt := 48) hx hb dX3_why_9 (by decide) (fun c3 => ?_) (fun c3 => ?_)
  · have h := h.1 c3
    refine lv_iconst (v := (-1)) hx hb dX3_why_48 (by decide) ?_
    exact gw_iret F hS h dX3_why_49
  · have h := h.2 c3
    refine lv_aload_n hx hb dX3_why_12 rfl (lv_at hl 0 rfl) ?_
    refine lv_iload_n hx hb dX3_why_13 rfl (lv_at hl 2 rfl) ?_
    refine gw_callVi (As := [.int a2]) (rest := []) F hS (tM_isPerson l g hO s1 a2 _ h) (cwV 1 hts (lw_V q1713 q1715 qs52 q90 q1716) rfl rfl rfl (by decide +kernel) ⟨Nat.le_of_ble_eq_true rfl, Nat.le_of_ble_eq_true rfl⟩) (m_rec F hO hS) rfl hl.1 rfl (Nat.le_of_ble_eq_true rfl) dX3_why_14 ⟨Nat.le_refl 0, Nat.le_refl 0⟩ (fun r5 s4 H locs h hS => ?_)
    obtain ⟨zr5, h⟩ := h
    refine lv_if_eq (tgt := 48) hx hb dX3_why_17 (by decide) (fun c6 => ?_) (fun c6 => ?_)
    · have h := h.1 c6
      refine lv_iconst (v := (-1)) hx hb dX3_why_48 (by decide) ?_
      exact gw_iret F hS h dX3_why_49
    · have h := h.2 c6
      refine lv_aload_n hx hb dX3_why_20 rfl (lv_at hl 0 rfl) ?_
      refine lv_iload_n hx hb dX3_why_21 rfl (lv_at hl 3 rfl) ?_
      refine gw_callVi (As := [.int a3]) (rest := []) F hS (tM_isPlace l g hO s4 a3 _ h) (cwV 1 hts (lw_V q1618 q1620 qs40 q90 q1621) rfl rfl rfl (by decide +kernel) ⟨Nat.le_of_ble_eq_true rfl, Nat.le_of_ble_eq_true rfl⟩) (m_rec F hO hS) rfl hl.1 rfl (Nat.le_of_ble_eq_true rfl) dX3_why_22 ⟨Nat.le_refl 0, Nat.le_refl 0⟩ (fun r8 s7 H locs h hS => ?_)
      obtain ⟨zr8, h⟩ := h
      refine lv_if_eq (tgt := 48) hx hb dX3_why_25 (by decide) (fun c9 => ?_) (fun c9 => ?_)
      · have h := h.1 c9
        refine lv_iconst (v := (-1)) hx hb dX3_why_48 (by decide) ?_
        exact gw_iret F hS h dX3_why_49
      · have h := h.2 c9
        refine lv_iload hx hb dX3_why_28 (lv_at hl 4 rfl) ?_
        refine gw_callSi (As := [.int a4]) (rest := []) F hS (tM_isDay l g hO s7 a4 _ h) (va_cwS 1 hts (lw_S q1873 q1874 q90 q1875) rfl rfl rfl (by decide +kernel) ⟨Nat.le_of_ble_eq_true rfl, Nat.le_of_ble_eq_true rfl⟩) rfl hl.1 rfl (Nat.le_of_ble_eq_true rfl) dX3_why_30 ⟨Nat.le_refl 0, Nat.le_refl 0⟩ (fun r11 s10 H locs h hS => ?_)
        obtain ⟨zr11, h⟩ := h
        refine lv_if_eq (tgt := 48) hx hb dX3_why_33 (by decide) (fun c12 => ?_) (fun c12 => ?_)
        · have h := h.1 c12
          refine lv_iconst (v := (-1)) hx hb dX3_why_48 (by decide) ?_
          exact gw_iret F hS h dX3_why_49
        · have h := h.2 c12
          refine lv_aload_n hx hb dX3_why_36 rfl (lv_at hl 0 rfl) ?_
          refine lv_iload_n hx hb dX3_why_37 rfl (lv_at hl 1 rfl) ?_
          refine lv_iload_n hx hb dX3_why_38 rfl (lv_at hl 2 rfl) ?_
          refine lv_iload_n hx hb dX3_why_39 rfl (lv_at hl 3 rfl) ?_
          refine lv_iload hx hb dX3_why_40 (lv_at hl 4 rfl) ?_
          refine gw_callVi (As := [.int a1, .int a2, .int a3, .int a4]) (rest := []) F hS (tM_whyOf l g hO s10 a1 a2 a3 a4 _ h) (cwV 4 hts (lw_V q1799 q1801 qs61 q90 q1802) rfl rfl rfl (by decide +kernel) ⟨Nat.le_of_ble_eq_true rfl, Nat.le_of_ble_eq_true rfl⟩) (m_rec F hO hS) rfl hl.1 rfl (Nat.le_of_ble_eq_true rfl) dX3_why_42 ⟨Nat.le_refl 0, Nat.le_refl 0⟩ (fun r14 s13 H locs h hS => ?_)
          refine lv_goto (tgt := 49) hx hb dX3_why_45 (by decide) ?_
          exact gw_iret F hS h dX3_why_49
set_option maxHeartbeats 4000000 in
set_option maxRecDepth 100000 in
theorem tM_why (l : Launch) (g : MG) (hO : MOK g) (σ : MS) (a1 : Int32) (a2 : Int32) (a3 : Int32) (a4 : Int32) (post : Int32 → MS → Prop) (h : wM_why post σ a1 a2 a3 a4) : Met l yX3_why (ws_ yX3_why cX3_why 5 (some .int)) rM_why (va_Pc [.ref (mad g 62), .int a1, .int a2, .int a3, .int a4] (gPre (MWd g) (mD g) (mcl g) (mty g) σ)) (va_Qi post (gB (MWd g)) (MA g)) 0 0 (MA g) := by
  refine Met.ofW (cc := cX3_why) (maxL := 5) (ret := (some .int)) (by decide) rfl ?_
  intro p e s m args below meth c s₁ B hml hv
  obtain ⟨rfl, hW, hK⟩ := hv
  have hts := atoms_spec (ws := (ws_ yX3_why cX3_why 5 (some .int))) B.pre
  have hts : ∀ w ∈ lw_all, w.before _ s = true := fun w h => hts w (List.mem_cons_of_mem _ h)
  have hl := lv_entry ([.ref (mad g 62), .int a1, .int a2, .int a3, .int a4]) (n := 5) (Nat.le_of_ble_eq_true rfl)
  rw [lg_entry_eq]
  generalize (lg_sl ([.ref (mad g 62), .int a1, .int a2, .int a3, .int a4]) ++ List.replicate (5 - (lg_sl ([.ref (mad g 62), .int a1, .int a2, .int a3, .int a4])).length) Slot.unset).toArray = ls at hl ⊢
  exact kM_why ⟨⟨B.exec, B.bytes, hml, findClass_of_methodNamed B.named, hts⟩, hK, B.returns, B.notSynchronized⟩ hO σ a1 a2 a3 a4 s.heap [] ls ⟨hW, va_S.rf⟩ hl h
def wM_areWhole_L4 (post : Int32 → MS → Prop) : Nat → MS → Int32 → Int32 → Int32 → Prop
  | 0, _, _, _, _ => False
  | n + 1, σ, x1, x2, x3 => ((σ 18 0) ≤ x3 → bz x2 ∧ post x2 σ) ∧ (¬ ((σ 18 0) ≤ x3) → (((¬ (x2 = 0) → (¬ (((x1 >>> (x3 &&& 31)) &&& 1) = 0) → vp_in x3 16 ∧ (¬ ((σ 20 x3.toNatClampNeg) < 0) → vp_in x3 16)))) ∧ ∀ v9 : Int32, v9 = (if x2 = 0 then 0 else if ((x1 >>> (x3 &&& 31)) &&& 1) = 0 then 1 else if (σ 20 x3.toNatClampNeg) < 0 then 1 else if ((x1 >>> ((σ 20 x3.toNatClampNeg) &&& 31)) &&& 1) = 1 then 1 else 0) → (∀ x12 : Int32, x12 = x3 + 1 → wM_areWhole_L4 post n σ x1 v9 x12)))
def wM_areWhole (post : Int32 → MS → Prop) (σ : MS) (a1 : Int32) : Prop := ∃ n13, wM_areWhole_L4 post n13 σ a1 1 0
abbrev rM_areWhole : Room := { frames := 0, cells := 0, slots := 0, locals := 0 }
set_option maxHeartbeats 4000000 in
set_option maxRecDepth 100000 in
theorem kM_areWhole_L4 {p : Program} {l : Launch} {e : Env} {s : State} {m : MethodId} {args : Array Value} {below : List Frame} {meth : Method} {c : Code} {g : MG} {post : Int32 → MS → Prop} (F : gFx p s m c meth args cX3_areWhole 4 RX3 (some .boolean) (mD g) (mcl g) (mty g)) (hO : MOK g) : ∀ (n : Nat) (σ : MS) (x1 : Int32) (x2 : Int32) (x3 : Int32) (H : Heap) (locs : List Loc) (ls : Array Slot), gSt (MWd g) (MA g) s σ H locs → lv_has ls 4 [(0, .ref (mad g 62)), (1, .int x1), (2, .int x2), (3, .int x3)] → wM_areWhole_L4 post n σ x1 x2 x3 → W p l e rM_areWhole s m args below meth c H locs 0 0 (MQ below (va_Qi (zpost post) (gB (MWd g)) (MA g)) args s 0 0 (MA g)) (F0 m 4 ls []) := by
  have hx := F.hx
  have hb := F.hb
  have hts := F.1.2.2.2.2
  have hown := F.1.2.2.2.1
  intro n
  induction n with
  | zero =>
    intro σ x1 x2 x3 H locs ls hS hl h
    exact False.elim h
  | succ n ih =>
    intro σ x1 x2 x3 H locs ls hS hl h
    rw [wM_areWhole_L4] at h
    refine lv_iload_n hx hb dX3_areWhole_4 rfl (lv_at hl 3 rfl) ?_
    refine lv_aload_n hx hb dX3_areWhole_5 rfl (lv_at hl 0 rfl) ?_
    refine m_geti F hO hS 18 (by decide) rfl q1415 dX3_areWhole_6 ?_
    refine lv_icmp_ge (tgt := 59) hx hb dX3_areWhole_9 (by decide) (fun c4 => ?_) (fun c4 => ?_)
    · have h := h.1 c4
      refine lv_iload_n hx hb dX3_areWhole_59 rfl (lv_at hl 2 rfl) ?_
      exact gw_zret F hS h.1 h.2 dX3_areWhole_60
    · have h := h.2 c4
      refine lv_iload_n hx hb dX3_areWhole_12 rfl (lv_at hl 2 rfl) ?_
      obtain ⟨b10, h⟩ := h
      refine gcut (P := ∀ (v9 : Int32) (H : Heap) (locs : List Loc) (ls : Array Slot), v9 = (if x2 = 0 then 0 else if ((x1 >>> (x3 &&& 31)) &&& 1) = 0 then 1 else if (σ 20 x3.toNatClampNeg) < 0 then 1 else if ((x1 >>> ((σ 20 x3.toNatClampNeg) &&& 31)) &&& 1) = 1 then 1 else 0) → gSt (MWd g) (MA g) s σ H locs → lv_has ls 4 [(0, .ref (mad g 62)), (1, .int x1), (3, .int x3)] → W p l e rM_areWhole s m args below meth c H locs 0 0 (MQ below (va_Qi (zpost post) (gB (MWd g)) (MA g)) args s 0 0 (MA g)) (F0 m 52 ls [.int v9])) (fun v9 H locs ls ev9 hS hl => ?_) (fun J11 => ?_)
      · have h := h v9 ev9
        refine lv_istore_n (lv' := [(2, .int v9), (0, .ref (mad g 62)), (1, .int x1), (3, .int x3)]) hx hb dX3_areWhole_52 rfl hl (by decide) rfl (fun ls hl => ?_)
        obtain ⟨x12, ex12⟩ : ∃ y : Int32, y = x3 + 1 := ⟨_, rfl⟩
        have h := h x12 ex12
        refine lv_iinc (v := x12) (lv' := [(3, .int x12), (2, .int v9), (0, .ref (mad g 62)), (1, .int x1)]) hx hb dX3_areWhole_53 hl (k := 3) rfl (by rw [ex12]; rfl) (by decide) rfl (fun ls hl => ?_)
        refine lv_goto (tgt := 4) hx hb dX3_areWhole_56 (by decide) ?_
        exact ih σ x1 v9 x12 H locs ls hS (lv_sub hl [2, 3, 1, 0] rfl) h
      · refine lv_if_eq (tgt := 51) hx hb dX3_areWhole_13 (by decide) (fun c5 => ?_) (fun c5 => ?_)
        · refine lv_iconst (v := 0) hx hb dX3_areWhole_51 (by decide) ?_
          exact J11 _ H locs ls (by first | with_reducible rfl | ((try rw [if_pos c5]); done)) hS (lv_sub hl [0, 1, 3] rfl)
        · refine lv_iload_n hx hb dX3_areWhole_16 rfl (lv_at hl 1 rfl) ?_
          refine lv_iload_n hx hb dX3_areWhole_17 rfl (lv_at hl 3 rfl) ?_
          refine lv_ishr hx hb dX3_areWhole_18 ?_
          refine lv_iconst (v := 1) hx hb dX3_areWhole_19 (by decide) ?_
          refine lv_iand hx hb dX3_areWhole_20 ?_
          refine lv_if_eq (tgt := 47) hx hb dX3_areWhole_21 (by decide) (fun c6 => ?_) (fun c6 => ?_)
          · refine lv_iconst (v := 1) hx hb dX3_areWhole_47 (by decide) ?_
            refine lv_goto (tgt := 52) hx hb dX3_areWhole_48 (by decide) ?_
            exact J11 _ H locs ls (by first | with_reducible rfl | ((try rw [if_neg c5]); (try rw [if_pos c6]); done)) hS (lv_sub hl [0, 1, 3] rfl)
          · refine lv_aload_n hx hb dX3_areWhole_24 rfl (lv_at hl 0 rfl) ?_
            refine m_geta F hO hS 20 (by decide) rfl q1417 dX3_areWhole_25 ?_
            refine lv_iload_n hx hb dX3_areWhole_28 rfl (lv_at hl 3 rfl) ?_
            refine m_iald F hS 20 16 rfl rfl (((b10 c5) c6).1) dX3_areWhole_29 ?_
            refine lv_if_lt (tgt := 47) hx hb dX3_areWhole_30 (by decide) (fun c7 => ?_) (fun c7 => ?_)
            · refine lv_iconst (v := 1) hx hb dX3_areWhole_47 (by decide) ?_
              refine lv_goto (tgt := 52) hx hb dX3_areWhole_48 (by decide) ?_
              exact J11 _ H locs ls (by first | with_reducible rfl | ((try rw [if_neg c5]); (try rw [if_neg c6]); (try rw [if_pos c7]); done)) hS (lv_sub hl [0, 1, 3] rfl)
            · refine lv_iload_n hx hb dX3_areWhole_33 rfl (lv_at hl 1 rfl) ?_
              refine lv_aload_n hx hb dX3_areWhole_34 rfl (lv_at hl 0 rfl) ?_
              refine m_geta F hO hS 20 (by decide) rfl q1417 dX3_areWhole_35 ?_
              refine lv_iload_n hx hb dX3_areWhole_38 rfl (lv_at hl 3 rfl) ?_
              refine m_iald F hS 20 16 rfl rfl ((((b10 c5) c6).2 c7)) dX3_areWhole_39 ?_
              refine lv_ishr hx hb dX3_areWhole_40 ?_
              refine lv_iconst (v := 1) hx hb dX3_areWhole_41 (by decide) ?_
              refine lv_iand hx hb dX3_areWhole_42 ?_
              refine lv_iconst (v := 1) hx hb dX3_areWhole_43 (by decide) ?_
              refine lv_icmp_ne (tgt := 51) hx hb dX3_areWhole_44 (by decide) (fun c8 => ?_) (fun c8 => ?_)
              · refine lv_iconst (v := 0) hx hb dX3_areWhole_51 (by decide) ?_
                exact J11 _ H locs ls (by first | with_reducible rfl | ((try rw [if_neg c5]); (try rw [if_neg c6]); (try rw [if_neg c7]); (try rw [if_neg c8]); done)) hS (lv_sub hl [0, 1, 3] rfl)
              · refine lv_iconst (v := 1) hx hb dX3_areWhole_47 (by decide) ?_
                refine lv_goto (tgt := 52) hx hb dX3_areWhole_48 (by decide) ?_
                exact J11 _ H locs ls (by first | with_reducible rfl | ((try rw [if_neg c5]); (try rw [if_neg c6]); (try rw [if_neg c7]); (try rw [if_pos c8]); done)) hS (lv_sub hl [0, 1, 3] rfl)
set_option maxHeartbeats 4000000 in
set_option maxRecDepth 100000 in
theorem kM_areWhole {p : Program} {l : Launch} {e : Env} {s : State} {m : MethodId} {args : Array Value} {below : List Frame} {meth : Method} {c : Code} {g : MG} {post : Int32 → MS → Prop} (F : gFx p s m c meth args cX3_areWhole 4 RX3 (some .boolean) (mD g) (mcl g) (mty g)) (hO : MOK g) (σ : MS) (a1 : Int32) (H : Heap) (locs : List Loc) (ls : Array Slot) (hS : gSt (MWd g) (MA g) s σ H locs) (hl : lv_has ls 4 [(0, .ref (mad g 62)), (1, .int a1)]) (h : wM_areWhole post σ a1) : W p l e rM_areWhole s m args below meth c H locs 0 0 (MQ below (va_Qi (zpost post) (gB (MWd g)) (MA g)) args s 0 0 (MA g)) (F0 m 0 ls []) := by
  have hx := F.hx
  have hb := F.hb
  have hts := F.1.2.2.2.2
  have hown := F.1.2.2.2.1
  rw [wM_areWhole] at h
  refine lv_iconst (v := 1) hx hb dX3_areWhole_0 (by decide) ?_
  refine lv_istore_n (lv' := [(2, .int 1), (0, .ref (mad g 62)), (1, .int a1)]) hx hb dX3_areWhole_1 rfl hl (by decide) rfl (fun ls hl => ?_)
  refine lv_iconst (v := 0) hx hb dX3_areWhole_2 (by decide) ?_
  refine lv_istore_n (lv' := [(3, .int 0), (2, .int 1), (0, .ref (mad g 62)), (1, .int a1)]) hx hb dX3_areWhole_3 rfl hl (by decide) rfl (fun ls hl => ?_)
  obtain ⟨n13, h⟩ := h
  exact (kM_areWhole_L4 F hO n13) σ a1 1 0 H locs ls hS (lv_sub hl [2, 3, 1, 0] rfl) h
set_option maxHeartbeats 4000000 in
set_option maxRecDepth 100000 in
theorem tM_areWhole (l : Launch) (g : MG) (hO : MOK g) (σ : MS) (a1 : Int32) (post : Int32 → MS → Prop) (h : wM_areWhole post σ a1) : Met l yX3_areWhole (ws_ yX3_areWhole cX3_areWhole 4 (some .boolean)) rM_areWhole (va_Pc [.ref (mad g 62), .int a1] (gPre (MWd g) (mD g) (mcl g) (mty g) σ)) (va_Qi (zpost post) (gB (MWd g)) (MA g)) 0 0 (MA g) := by
  refine Met.ofW (cc := cX3_areWhole) (maxL := 4) (ret := (some .boolean)) (by decide) rfl ?_
  intro p e s m args below meth c s₁ B hml hv
  obtain ⟨rfl, hW, hK⟩ := hv
  have hts := atoms_spec (ws := (ws_ yX3_areWhole cX3_areWhole 4 (some .boolean))) B.pre
  have hts : ∀ w ∈ lw_all, w.before _ s = true := fun w h => hts w (List.mem_cons_of_mem _ h)
  have hl := lv_entry ([.ref (mad g 62), .int a1]) (n := 4) (Nat.le_of_ble_eq_true rfl)
  rw [lg_entry_eq]
  generalize (lg_sl ([.ref (mad g 62), .int a1]) ++ List.replicate (4 - (lg_sl ([.ref (mad g 62), .int a1])).length) Slot.unset).toArray = ls at hl ⊢
  exact kM_areWhole ⟨⟨B.exec, B.bytes, hml, findClass_of_methodNamed B.named, hts⟩, hK, B.returns, B.notSynchronized⟩ hO σ a1 s.heap [] ls ⟨hW, va_S.rf⟩ hl h
def wM_isRoad_L151 (post : Int32 → MS → Prop) (K176 : MS → Int32 → Int32 → Int32 → Int32 → Prop) : Nat → MS → Int32 → Int32 → Int32 → Int32 → Int32 → Int32 → Prop
  | 0, _, _, _, _, _, _, _ => False
  | n + 1, σ, x20, x21, x22, x23, x24, x25 => (x24 < x25 → K176 σ x20 x21 x22 x23) ∧ (¬ (x24 < x25) → (x22 = 0 → K176 σ x20 x21 x22 x23) ∧ (¬ (x22 = 0) → wM_isDark (fun r29 s28 => (∀ x30 : Int32, x30 = x25 + 1 → wM_isRoad_L151 post K176 n s28 x20 x21 r29 x23 x24 x30)) σ x25))
def wM_isRoad_J113 (post : Int32 → MS → Prop) (K65 : MS → Int32 → Int32 → Int32 → Int32 → Prop) (σ : MS) (x14 : Int32) (x15 : Int32) (x16 : Int32) (x17 : Int32) : Prop := (x17 < 0 → (∀ x19 : Int32, x19 = σ 0 0 → ∃ n31, wM_isRoad_L151 post (fun σ32 x33 x34 x35 x36 => (∀ x37 : Int32, x37 = x36 + 1 → K65 σ32 x33 x34 x35 x37)) n31 σ x14 x15 0 x16 x17 x19)) ∧ (¬ (x17 < 0) → wM_whyOf (fun r39 s38 => (∀ v41 : Int32, v41 = (if r39 < 0 then 0 else 1) → (∀ x43 : Int32, x43 = s38 0 0 → ∃ n44, wM_isRoad_L151 post (fun σ45 x46 x47 x48 x49 => (∀ x50 : Int32, x50 = x49 + 1 → K65 σ45 x46 x47 x48 x50)) n44 s38 x14 x15 v41 x16 x17 x43))) σ 1 x16 x15 ((σ 0 0) / 24))
def wM_isRoad_L65 (post : Int32 → MS → Prop) : Nat → MS → Int32 → Int32 → Int32 → Int32 → Prop
  | 0, _, _, _, _, _ => False
  | n + 1, σ, x4, x5, x6, x7 => ((σ 18 0) ≤ x7 → bz x6 ∧ post x6 σ) ∧ (¬ ((σ 18 0) ≤ x7) → (x6 = 0 → bz x6 ∧ post x6 σ) ∧ (¬ (x6 = 0) → (¬ (((x4 >>> (x7 &&& 31)) &&& 1) = 1) → (∀ x11 : Int32, x11 = x7 + 1 → wM_isRoad_L65 post n σ x4 x5 x6 x11)) ∧ (((x4 >>> (x7 &&& 31)) &&& 1) = 1 → (vp_in x7 16 ∧ (0 ≤ (σ 20 x7.toNatClampNeg) → wM_isRoad_J113 post (wM_isRoad_L65 post n) σ x4 x5 x7 (σ 0 0)) ∧ (¬ (0 ≤ (σ 20 x7.toNatClampNeg)) → wM_arrives (fun r52 s51 => wM_isRoad_J113 post (wM_isRoad_L65 post n) s51 x4 x5 x7 r52) σ x7 x5)))))
def wM_isRoad_J43 (post : Int32 → MS → Prop) (σ : MS) (x60 : Int32) (x61 : Int32) : Prop := wM_many (fun r63 s62 => wM_hasBeds (fun r65 s64 => (∀ v67 : Int32, v67 = (if r65 = 0 then 0 else 1) → ∃ n69, wM_isRoad_L65 post n69 s64 x60 x61 v67 0)) s62 x61 r63) σ x60
def wM_isRoad (post : Int32 → MS → Prop) (σ : MS) (a1 : Int32) (a2 : Int32) (a3 : Int32) : Prop := wM_isHouse (fun r2 s1 => (r2 = 0 → ∃ n53, wM_isRoad_L65 post n53 s1 a1 a3 0 0) ∧ (¬ (r2 = 0) → wM_isLit (fun r55 s54 => (r55 = 0 → ∃ n57, wM_isRoad_L65 post n57 s54 a1 a3 0 0) ∧ (¬ (r55 = 0) → (vp_in a2 16 ∧ ((s54 2 a2.toNatClampNeg) = 0 → wM_isRoad_J43 post s54 a1 a3) ∧ (¬ ((s54 2 a2.toNatClampNeg) = 0) → (vp_in a2 16 ∧ (¬ ((((s54 8 a2.toNatClampNeg) >>> (a3 &&& 31)) &&& 1) = 1) → ∃ n72, wM_isRoad_L65 post n72 s54 a1 a3 0 0) ∧ ((((s54 8 a2.toNatClampNeg) >>> (a3 &&& 31)) &&& 1) = 1 → wM_isRoad_J43 post s54 a1 a3)))))) s1 a3 (s1 0 0))) σ a3
abbrev rM_isRoad : Room := { frames := 4, cells := 0, slots := 0, locals := 101 }
set_option maxHeartbeats 4000000 in
set_option maxRecDepth 100000 in
theorem kM_isRoad_L151 {p : Program} {l : Launch} {e : Env} {s : State} {m : MethodId} {args : Array Value} {below : List Frame} {meth : Method} {c : Code} {g : MG} {post : Int32 → MS → Prop} {K176 : MS → Int32 → Int32 → Int32 → Int32 → Prop} (F : gFx p s m c meth args cX3_isRoad 8 RX3 (some .boolean) (mD g) (mcl g) (mty g)) (hO : MOK g) (hK176 : ∀ (σ : MS) (z0 : Int32) (z1 : Int32) (z2 : Int32) (z3 : Int32) (H : Heap) (locs : List Loc) (ls : Array Slot), gSt (MWd g) (MA g) s σ H locs → lv_has ls 8 [(0, .ref (mad g 62)), (1, .int z0), (3, .int z1), (4, .int z2), (5, .int z3)] → K176 σ z0 z1 z2 z3 → W p l e rM_isRoad s m args below meth c H locs 0 0 (MQ below (va_Qi (zpost post) (gB (MWd g)) (MA g)) args s 0 0 (MA g)) (F0 m 176 ls [])) : ∀ (n : Nat) (σ : MS) (x20 : Int32) (x21 : Int32) (x22 : Int32) (x23 : Int32) (x24 : Int32) (x25 : Int32) (H : Heap) (locs : List Loc) (ls : Array Slot), gSt (MWd g) (MA g) s σ H locs → lv_has ls 8 [(0, .ref (mad g 62)), (1, .int x20), (3, .int x21), (4, .int x22), (5, .int x23), (6, .int x24), (7, .int x25)] → wM_isRoad_L151 post K176 n σ x20 x21 x22 x23 x24 x25 → W p l e rM_isRoad s m args below meth c H locs 0 0 (MQ below (va_Qi (zpost post) (gB (MWd g)) (MA g)) args s 0 0 (MA g)) (F0 m 151 ls []) := by
  have hx := F.hx
  have hb := F.hb
  have hts := F.1.2.2.2.2
  have hown := F.1.2.2.2.1
  intro n
  induction n with
  | zero =>
    intro σ x20 x21 x22 x23 x24 x25 H locs ls hS hl h
    exact False.elim h
  | succ n ih =>
    intro σ x20 x21 x22 x23 x24 x25 H locs ls hS hl h
    rw [wM_isRoad_L151] at h
    refine lv_iload hx hb dX3_isRoad_151 (lv_at hl 6 rfl) ?_
    refine lv_iload hx hb dX3_isRoad_153 (lv_at hl 5 rfl) ?_
    refine lv_icmp_gt (tgt := 176) hx hb dX3_isRoad_155 (by decide) (fun c26 => ?_) (fun c26 => ?_)
    · have h := h.1 c26
      exact hK176 σ x20 x21 x22 x23 H locs ls hS (lv_sub hl [0, 1, 2, 3, 4] rfl) h
    · have h := h.2 c26
      refine lv_iload hx hb dX3_isRoad_158 (lv_at hl 3 rfl) ?_
      refine lv_if_eq (tgt := 176) hx hb dX3_isRoad_160 (by decide) (fun c27 => ?_) (fun c27 => ?_)
      · have h := h.1 c27
        exact hK176 σ x20 x21 x22 x23 H locs ls hS (lv_sub hl [0, 1, 2, 3, 4] rfl) h
      · have h := h.2 c27
        refine lv_iload hx hb dX3_isRoad_163 (lv_at hl 6 rfl) ?_
        refine gw_callSi (As := [.int x25]) (rest := []) F hS (tM_isDark l g hO σ x25 _ h) (va_cwS 1 hts (lw_S q1894 q1895 q90 q1896) rfl rfl rfl (by decide +kernel) ⟨Nat.le_of_ble_eq_true rfl, Nat.le_of_ble_eq_true rfl⟩) rfl hl.1 rfl (Nat.le_of_ble_eq_true rfl) dX3_isRoad_165 ⟨Nat.le_refl 0, Nat.le_refl 0⟩ (fun r29 s28 H locs h hS => ?_)
        obtain ⟨zr29, h⟩ := h
        refine lv_istore (lv' := [(4, .int r29), (0, .ref (mad g 62)), (1, .int x20), (3, .int x21), (5, .int x23), (6, .int x24), (7, .int x25)]) hx hb dX3_isRoad_168 hl (by decide) rfl (fun ls hl => ?_)
        obtain ⟨x30, ex30⟩ : ∃ y : Int32, y = x25 + 1 := ⟨_, rfl⟩
        have h := h x30 ex30
        refine lv_iinc (v := x30) (lv' := [(7, .int x30), (4, .int r29), (0, .ref (mad g 62)), (1, .int x20), (3, .int x21), (5, .int x23), (6, .int x24)]) hx hb dX3_isRoad_170 hl (k := 6) rfl (by rw [ex30]; rfl) (by decide) rfl (fun ls hl => ?_)
        refine lv_goto (tgt := 151) hx hb dX3_isRoad_173 (by decide) ?_
        exact ih s28 x20 x21 r29 x23 x24 x30 H locs ls hS (lv_sub hl [2, 3, 4, 1, 5, 6, 0] rfl) h
set_option maxHeartbeats 4000000 in
set_option maxRecDepth 100000 in
theorem kM_isRoad_J113 {p : Program} {l : Launch} {e : Env} {s : State} {m : MethodId} {args : Array Value} {below : List Frame} {meth : Method} {c : Code} {g : MG} {post : Int32 → MS → Prop} {K65 : MS → Int32 → Int32 → Int32 → Int32 → Prop} (F : gFx p s m c meth args cX3_isRoad 8 RX3 (some .boolean) (mD g) (mcl g) (mty g)) (hO : MOK g) (hK65 : ∀ (σ : MS) (z0 : Int32) (z1 : Int32) (z2 : Int32) (z3 : Int32) (H : Heap) (locs : List Loc) (ls : Array Slot), gSt (MWd g) (MA g) s σ H locs → lv_has ls 8 [(0, .ref (mad g 62)), (1, .int z0), (3, .int z1), (4, .int z2), (5, .int z3)] → K65 σ z0 z1 z2 z3 → W p l e rM_isRoad s m args below meth c H locs 0 0 (MQ below (va_Qi (zpost post) (gB (MWd g)) (MA g)) args s 0 0 (MA g)) (F0 m 65 ls [])) : ∀ (σ : MS) (x14 : Int32) (x15 : Int32) (x16 : Int32) (x17 : Int32) (H : Heap) (locs : List Loc) (ls : Array Slot), gSt (MWd g) (MA g) s σ H locs → lv_has ls 8 [(0, .ref (mad g 62)), (1, .int x14), (3, .int x15), (5, .int x16)] → wM_isRoad_J113 post K65 σ x14 x15 x16 x17 → W p l e rM_isRoad s m args below meth c H locs 0 0 (MQ below (va_Qi (zpost post) (gB (MWd g)) (MA g)) args s 0 0 (MA g)) (F0 m 113 ls [.int x17]) := by
  have hx := F.hx
  have hb := F.hb
  have hts := F.1.2.2.2.2
  have hown := F.1.2.2.2.1
  intro σ x14 x15 x16 x17 H locs ls hS hl h
  rw [wM_isRoad_J113] at h
  refine lv_istore (lv' := [(6, .int x17), (0, .ref (mad g 62)), (1, .int x14), (3, .int x15), (5, .int x16)]) hx hb dX3_isRoad_113 hl (by decide) rfl (fun ls hl => ?_)
  refine lv_iload hx hb dX3_isRoad_115 (lv_at hl 0 rfl) ?_
  refine lv_if_lt (tgt := 142) hx hb dX3_isRoad_117 (by decide) (fun c18 => ?_) (fun c18 => ?_)
  · have h := h.1 c18
    refine lv_iconst (v := 0) hx hb dX3_isRoad_142 (by decide) ?_
    refine lv_istore (lv' := [(4, .int 0), (6, .int x17), (0, .ref (mad g 62)), (1, .int x14), (3, .int x15), (5, .int x16)]) hx hb dX3_isRoad_143 hl (by decide) rfl (fun ls hl => ?_)
    refine lv_aload_n hx hb dX3_isRoad_145 rfl (lv_at hl 2 rfl) ?_
    refine m_geti F hO hS 0 (by decide) rfl q1397 dX3_isRoad_146 ?_
    refine lv_topi (fun x19 ex19 => ?_)
    have h := h x19 ex19
    refine lv_istore (lv' := [(7, .int x19), (4, .int 0), (6, .int x17), (0, .ref (mad g 62)), (1, .int x14), (3, .int x15), (5, .int x16)]) hx hb dX3_isRoad_149 hl (by decide) rfl (fun ls hl => ?_)
    obtain ⟨n31, h⟩ := h
    refine (kM_isRoad_L151 F hO ?_ n31) σ x14 x15 0 x16 x17 x19 H locs ls hS (lv_sub hl [3, 4, 5, 1, 6, 2, 0] rfl) h
    · intro σ32 x33 x34 x35 x36 H locs ls hS hl h
      obtain ⟨x37, ex37⟩ : ∃ y : Int32, y = x36 + 1 := ⟨_, rfl⟩
      have h := h x37 ex37
      refine lv_iinc (v := x37) (lv' := [(5, .int x37), (0, .ref (mad g 62)), (1, .int x33), (3, .int x34), (4, .int x35)]) hx hb dX3_isRoad_176 hl (k := 4) rfl (by rw [ex37]; rfl) (by decide) rfl (fun ls hl => ?_)
      refine lv_goto (tgt := 65) hx hb dX3_isRoad_179 (by decide) ?_
      exact hK65 σ32 x33 x34 x35 x37 H locs ls hS (lv_sub hl [1, 2, 3, 4, 0] rfl) h
  · have h := h.2 c18
    refine lv_aload_n hx hb dX3_isRoad_120 rfl (lv_at hl 1 rfl) ?_
    refine lv_iconst (v := 1) hx hb dX3_isRoad_121 (by decide) ?_
    refine lv_iload hx hb dX3_isRoad_122 (lv_at hl 4 rfl) ?_
    refine lv_iload_n hx hb dX3_isRoad_124 rfl (lv_at hl 3 rfl) ?_
    refine lv_aload_n hx hb dX3_isRoad_125 rfl (lv_at hl 1 rfl) ?_
    refine m_geti F hO hS 0 (by decide) rfl q1397 dX3_isRoad_126 ?_
    refine lv_bipush (v := 24) hx hb dX3_isRoad_129 (by decide) ?_
    refine lv_idiv hx hb dX3_isRoad_131 (by decide) ?_
    refine gw_callVi (As := [.int 1, .int x16, .int x15, .int ((σ 0 0) / 24)]) (rest := []) F hS (tM_whyOf l g hO σ 1 x16 x15 ((σ 0 0) / 24) _ h) (cwV 4 hts (lw_V q1799 q1801 qs61 q90 q1802) rfl rfl rfl (by decide +kernel) ⟨Nat.le_of_ble_eq_true rfl, Nat.le_of_ble_eq_true rfl⟩) (m_rec F hO hS) rfl hl.1 rfl (Nat.le_of_ble_eq_true rfl) dX3_isRoad_132 ⟨Nat.le_refl 0, Nat.le_refl 0⟩ (fun r39 s38 H locs h hS => ?_)
    refine gcut (P := ∀ (v41 : Int32) (H : Heap) (locs : List Loc) (ls : Array Slot), v41 = (if r39 < 0 then 0 else 1) → gSt (MWd g) (MA g) s s38 H locs → lv_has ls 8 [(0, .ref (mad g 62)), (1, .int x14), (3, .int x15), (5, .int x16), (6, .int x17)] → W p l e rM_isRoad s m args below meth c H locs 0 0 (MQ below (va_Qi (zpost post) (gB (MWd g)) (MA g)) args s 0 0 (MA g)) (F0 m 143 ls [.int v41])) (fun v41 H locs ls ev41 hS hl => ?_) (fun J42 => ?_)
    · have h := h v41 ev41
      refine lv_istore (lv' := [(4, .int v41), (0, .ref (mad g 62)), (1, .int x14), (3, .int x15), (5, .int x16), (6, .int x17)]) hx hb dX3_isRoad_143 hl (by decide) rfl (fun ls hl => ?_)
      refine lv_aload_n hx hb dX3_isRoad_145 rfl (lv_at hl 1 rfl) ?_
      refine m_geti F hO hS 0 (by decide) rfl q1397 dX3_isRoad_146 ?_
      refine lv_topi (fun x43 ex43 => ?_)
      have h := h x43 ex43
      refine lv_istore (lv' := [(7, .int x43), (4, .int v41), (0, .ref (mad g 62)), (1, .int x14), (3, .int x15), (5, .int x16), (6, .int x17)]) hx hb dX3_isRoad_149 hl (by decide) rfl (fun ls hl => ?_)
      obtain ⟨n44, h⟩ := h
      refine (kM_isRoad_L151 F hO ?_ n44) s38 x14 x15 v41 x16 x17 x43 H locs ls hS (lv_sub hl [2, 3, 4, 1, 5, 6, 0] rfl) h
      · intro σ45 x46 x47 x48 x49 H locs ls hS hl h
        obtain ⟨x50, ex50⟩ : ∃ y : Int32, y = x49 + 1 := ⟨_, rfl⟩
        have h := h x50 ex50
        refine lv_iinc (v := x50) (lv' := [(5, .int x50), (0, .ref (mad g 62)), (1, .int x46), (3, .int x47), (4, .int x48)]) hx hb dX3_isRoad_176 hl (k := 4) rfl (by rw [ex50]; rfl) (by decide) rfl (fun ls hl => ?_)
        refine lv_goto (tgt := 65) hx hb dX3_isRoad_179 (by decide) ?_
        exact hK65 σ45 x46 x47 x48 x50 H locs ls hS (lv_sub hl [1, 2, 3, 4, 0] rfl) h
    · refine lv_if_lt (tgt := 142) hx hb dX3_isRoad_135 (by decide) (fun c40 => ?_) (fun c40 => ?_)
      · refine lv_iconst (v := 0) hx hb dX3_isRoad_142 (by decide) ?_
        exact J42 _ H locs ls (by first | with_reducible rfl | ((try rw [if_pos c40]); done)) hS (lv_sub hl [1, 2, 3, 4, 0] rfl)
      · refine lv_iconst (v := 1) hx hb dX3_isRoad_138 (by decide) ?_
        refine lv_goto (tgt := 143) hx hb dX3_isRoad_139 (by decide) ?_
        exact J42 _ H locs ls (by first | with_reducible rfl | ((try rw [if_neg c40]); done)) hS (lv_sub hl [1, 2, 3, 4, 0] rfl)
set_option maxHeartbeats 4000000 in
set_option maxRecDepth 100000 in
theorem kM_isRoad_L65 {p : Program} {l : Launch} {e : Env} {s : State} {m : MethodId} {args : Array Value} {below : List Frame} {meth : Method} {c : Code} {g : MG} {post : Int32 → MS → Prop} (F : gFx p s m c meth args cX3_isRoad 8 RX3 (some .boolean) (mD g) (mcl g) (mty g)) (hO : MOK g) : ∀ (n : Nat) (σ : MS) (x4 : Int32) (x5 : Int32) (x6 : Int32) (x7 : Int32) (H : Heap) (locs : List Loc) (ls : Array Slot), gSt (MWd g) (MA g) s σ H locs → lv_has ls 8 [(0, .ref (mad g 62)), (1, .int x4), (3, .int x5), (4, .int x6), (5, .int x7)] → wM_isRoad_L65 post n σ x4 x5 x6 x7 → W p l e rM_isRoad s m args below meth c H locs 0 0 (MQ below (va_Qi (zpost post) (gB (MWd g)) (MA g)) args s 0 0 (MA g)) (F0 m 65 ls []) := by
  have hx := F.hx
  have hb := F.hb
  have hts := F.1.2.2.2.2
  have hown := F.1.2.2.2.1
  intro n
  induction n with
  | zero =>
    intro σ x4 x5 x6 x7 H locs ls hS hl h
    exact False.elim h
  | succ n ih =>
    intro σ x4 x5 x6 x7 H locs ls hS hl h
    rw [wM_isRoad_L65] at h
    refine lv_iload hx hb dX3_isRoad_65 (lv_at hl 4 rfl) ?_
    refine lv_aload_n hx hb dX3_isRoad_67 rfl (lv_at hl 0 rfl) ?_
    refine m_geti F hO hS 18 (by decide) rfl q1415 dX3_isRoad_68 ?_
    refine lv_icmp_ge (tgt := 182) hx hb dX3_isRoad_71 (by decide) (fun c8 => ?_) (fun c8 => ?_)
    · have h := h.1 c8
      refine lv_iload hx hb dX3_isRoad_182 (lv_at hl 3 rfl) ?_
      exact gw_zret F hS h.1 h.2 dX3_isRoad_184
    · have h := h.2 c8
      refine lv_iload hx hb dX3_isRoad_74 (lv_at hl 3 rfl) ?_
      refine lv_if_eq (tgt := 182) hx hb dX3_isRoad_76 (by decide) (fun c9 => ?_) (fun c9 => ?_)
      · have h := h.1 c9
        refine lv_iload hx hb dX3_isRoad_182 (lv_at hl 3 rfl) ?_
        exact gw_zret F hS h.1 h.2 dX3_isRoad_184
      · have h := h.2 c9
        refine lv_iload_n hx hb dX3_isRoad_79 rfl (lv_at hl 1 rfl) ?_
        refine lv_iload hx hb dX3_isRoad_80 (lv_at hl 4 rfl) ?_
        refine lv_ishr hx hb dX3_isRoad_82 ?_
        refine lv_iconst (v := 1) hx hb dX3_isRoad_83 (by decide) ?_
        refine lv_iand hx hb dX3_isRoad_84 ?_
        refine lv_iconst (v := 1) hx hb dX3_isRoad_85 (by decide) ?_
        refine lv_icmp_ne (tgt := 176) hx hb dX3_isRoad_86 (by decide) (fun c10 => ?_) (fun c10 => ?_)
        · have h := h.1 c10
          obtain ⟨x11, ex11⟩ : ∃ y : Int32, y = x7 + 1 := ⟨_, rfl⟩
          have h := h x11 ex11
          refine lv_iinc (v := x11) (lv' := [(5, .int x11), (0, .ref (mad g 62)), (1, .int x4), (3, .int x5), (4, .int x6)]) hx hb dX3_isRoad_176 hl (k := 4) rfl (by rw [ex11]; rfl) (by decide) rfl (fun ls hl => ?_)
          refine lv_goto (tgt := 65) hx hb dX3_isRoad_179 (by decide) ?_
          exact ih σ x4 x5 x6 x11 H locs ls hS (lv_sub hl [1, 2, 3, 4, 0] rfl) h
        · have h := h.2 c10
          refine lv_aload_n hx hb dX3_isRoad_89 rfl (lv_at hl 0 rfl) ?_
          refine m_geta F hO hS 20 (by decide) rfl q1417 dX3_isRoad_90 ?_
          refine lv_iload hx hb dX3_isRoad_93 (lv_at hl 4 rfl) ?_
          obtain ⟨b12, h⟩ := h
          refine m_iald F hS 20 16 rfl rfl b12 dX3_isRoad_95 ?_
          refine lv_if_ge (tgt := 109) hx hb dX3_isRoad_96 (by decide) (fun c13 => ?_) (fun c13 => ?_)
          · have h := h.1 c13
            refine lv_aload_n hx hb dX3_isRoad_109 rfl (lv_at hl 0 rfl) ?_
            refine m_geti F hO hS 0 (by decide) rfl q1397 dX3_isRoad_110 ?_
            exact (kM_isRoad_J113 F hO ih) σ x4 x5 x7 (σ 0 0) H locs ls hS (lv_sub hl [0, 1, 2, 4] rfl) h
          · have h := h.2 c13
            refine lv_aload_n hx hb dX3_isRoad_99 rfl (lv_at hl 0 rfl) ?_
            refine lv_iload hx hb dX3_isRoad_100 (lv_at hl 4 rfl) ?_
            refine lv_iload_n hx hb dX3_isRoad_102 rfl (lv_at hl 2 rfl) ?_
            refine gw_callVi (As := [.int x7, .int x5]) (rest := []) F hS (tM_arrives l g hO σ x7 x5 _ h) (cwV 2 hts (lw_V q1739 q1741 qs55 q90 q1742) rfl rfl rfl (by decide +kernel) ⟨Nat.le_of_ble_eq_true rfl, Nat.le_of_ble_eq_true rfl⟩) (m_rec F hO hS) rfl hl.1 rfl (Nat.le_of_ble_eq_true rfl) dX3_isRoad_103 ⟨Nat.le_refl 0, Nat.le_refl 0⟩ (fun r52 s51 H locs h hS => ?_)
            refine lv_goto (tgt := 113) hx hb dX3_isRoad_106 (by decide) ?_
            exact (kM_isRoad_J113 F hO ih) s51 x4 x5 x7 r52 H locs ls hS (lv_sub hl [0, 1, 2, 4] rfl) h
set_option maxHeartbeats 4000000 in
set_option maxRecDepth 100000 in
theorem kM_isRoad_J43 {p : Program} {l : Launch} {e : Env} {s : State} {m : MethodId} {args : Array Value} {below : List Frame} {meth : Method} {c : Code} {g : MG} {post : Int32 → MS → Prop} (F : gFx p s m c meth args cX3_isRoad 8 RX3 (some .boolean) (mD g) (mcl g) (mty g)) (hO : MOK g) : ∀ (σ : MS) (x60 : Int32) (x61 : Int32) (H : Heap) (locs : List Loc) (ls : Array Slot), gSt (MWd g) (MA g) s σ H locs → lv_has ls 8 [(0, .ref (mad g 62)), (1, .int x60), (3, .int x61)] → wM_isRoad_J43 post σ x60 x61 → W p l e rM_isRoad s m args below meth c H locs 0 0 (MQ below (va_Qi (zpost post) (gB (MWd g)) (MA g)) args s 0 0 (MA g)) (F0 m 43 ls []) := by
  have hx := F.hx
  have hb := F.hb
  have hts := F.1.2.2.2.2
  have hown := F.1.2.2.2.1
  intro σ x60 x61 H locs ls hS hl h
  rw [wM_isRoad_J43] at h
  refine lv_aload_n hx hb dX3_isRoad_43 rfl (lv_at hl 0 rfl) ?_
  refine lv_iload_n hx hb dX3_isRoad_44 rfl (lv_at hl 2 rfl) ?_
  refine lv_iload_n hx hb dX3_isRoad_45 rfl (lv_at hl 1 rfl) ?_
  refine gw_callSi (As := [.int x60]) (rest := [.int x61, .ref (mad g 62)]) F hS (tM_many l g hO σ x60 _ h) (va_cwS 1 hts (lw_S q1751 q1752 q90 q1753) rfl rfl rfl (by decide +kernel) ⟨Nat.le_of_ble_eq_true rfl, Nat.le_of_ble_eq_true rfl⟩) rfl hl.1 rfl (Nat.le_of_ble_eq_true rfl) dX3_isRoad_46 ⟨Nat.le_refl 0, Nat.le_refl 0⟩ (fun r63 s62 H locs h hS => ?_)
  refine gw_callVi (As := [.int x61, .int r63]) (rest := []) F hS (tM_hasBeds l g hO s62 x61 r63 _ h) (cwV 2 hts (lw_V q1701 q1703 qs50 q90 q1704) rfl rfl rfl (by decide +kernel) ⟨Nat.le_of_ble_eq_true rfl, Nat.le_of_ble_eq_true rfl⟩) (m_rec F hO hS) rfl hl.1 rfl (Nat.le_of_ble_eq_true rfl) dX3_isRoad_49 ⟨Nat.le_refl 0, Nat.le_refl 0⟩ (fun r65 s64 H locs h hS => ?_)
  obtain ⟨zr65, h⟩ := h
  refine gcut (P := ∀ (v67 : Int32) (H : Heap) (locs : List Loc) (ls : Array Slot), v67 = (if r65 = 0 then 0 else 1) → gSt (MWd g) (MA g) s s64 H locs → lv_has ls 8 [(0, .ref (mad g 62)), (1, .int x60), (3, .int x61)] → W p l e rM_isRoad s m args below meth c H locs 0 0 (MQ below (va_Qi (zpost post) (gB (MWd g)) (MA g)) args s 0 0 (MA g)) (F0 m 60 ls [.int v67])) (fun v67 H locs ls ev67 hS hl => ?_) (fun J68 => ?_)
  · have h := h v67 ev67
    refine lv_istore (lv' := [(4, .int v67), (0, .ref (mad g 62)), (1, .int x60), (3, .int x61)]) hx hb dX3_isRoad_60 hl (by decide) rfl (fun ls hl => ?_)
    refine lv_iconst (v := 0) hx hb dX3_isRoad_62 (by decide) ?_
    refine lv_istore (lv' := [(5, .int 0), (4, .int v67), (0, .ref (mad g 62)), (1, .int x60), (3, .int x61)]) hx hb dX3_isRoad_63 hl (by decide) rfl (fun ls hl => ?_)
    obtain ⟨n69, h⟩ := h
    exact (kM_isRoad_L65 F hO n69) s64 x60 x61 v67 0 H locs ls hS (lv_sub hl [2, 3, 4, 1, 0] rfl) h
  · refine lv_if_eq (tgt := 59) hx hb dX3_isRoad_52 (by decide) (fun c66 => ?_) (fun c66 => ?_)
    · refine lv_iconst (v := 0) hx hb dX3_isRoad_59 (by decide) ?_
      exact J68 _ H locs ls (by first | with_reducible rfl | ((try rw [if_pos c66]); done)) hS (lv_sub hl [0, 1, 2] rfl)
    · refine lv_iconst (v := 1) hx hb dX3_isRoad_55 (by decide) ?_
      refine lv_goto (tgt := 60) hx hb dX3_isRoad_56 (by decide) ?_
      exact J68 _ H locs ls (by first | with_reducible rfl | ((try rw [if_neg c66]); done)) hS (lv_sub hl [0, 1, 2] rfl)
set_option maxHeartbeats 4000000 in
set_option maxRecDepth 100000 in
theorem kM_isRoad {p : Program} {l : Launch} {e : Env} {s : State} {m : MethodId} {args : Array Value} {below : List Frame} {meth : Method} {c : Code} {g : MG} {post : Int32 → MS → Prop} (F : gFx p s m c meth args cX3_isRoad 8 RX3 (some .boolean) (mD g) (mcl g) (mty g)) (hO : MOK g) (σ : MS) (a1 : Int32) (a2 : Int32) (a3 : Int32) (H : Heap) (locs : List Loc) (ls : Array Slot) (hS : gSt (MWd g) (MA g) s σ H locs) (hl : lv_has ls 8 [(0, .ref (mad g 62)), (1, .int a1), (2, .int a2), (3, .int a3)]) (h : wM_isRoad post σ a1 a2 a3) : W p l e rM_isRoad s m args below meth c H locs 0 0 (MQ below (va_Qi (zpost post) (gB (MWd g)) (MA g)) args s 0 0 (MA g)) (F0 m 0 ls []) := by
  have hx := F.hx
  have hb := F.hb
  have hts := F.1.2.2.2.2
  have hown := F.1.2.2.2.1
  rw [wM_isRoad] at h
  refine lv_aload_n hx hb dX3_isRoad_0 rfl (lv_at hl 0 rfl) ?_
  refine lv_iload_n hx hb dX3_isRoad_1 rfl (lv_at hl 3 rfl) ?_
  refine gw_callVi (As := [.int a3]) (rest := []) F hS (tM_isHouse l g hO σ a3 _ h) (cwV 1 hts (lw_V q1634 q1636 qs42 q90 q1637) rfl rfl rfl (by decide +kernel) ⟨Nat.le_of_ble_eq_true rfl, Nat.le_of_ble_eq_true rfl⟩) (m_rec F hO hS) rfl hl.1 rfl (Nat.le_of_ble_eq_true rfl) dX3_isRoad_2 ⟨Nat.le_refl 0, Nat.le_refl 0⟩ (fun r2 s1 H locs h hS => ?_)
  obtain ⟨zr2, h⟩ := h
  refine lv_if_eq (tgt := 59) hx hb dX3_isRoad_5 (by decide) (fun c3 => ?_) (fun c3 => ?_)
  · have h := h.1 c3
    refine lv_iconst (v := 0) hx hb dX3_isRoad_59 (by decide) ?_
    refine lv_istore (lv' := [(4, .int 0), (0, .ref (mad g 62)), (1, .int a1), (2, .int a2), (3, .int a3)]) hx hb dX3_isRoad_60 hl (by decide) rfl (fun ls hl => ?_)
    refine lv_iconst (v := 0) hx hb dX3_isRoad_62 (by decide) ?_
    refine lv_istore (lv' := [(5, .int 0), (4, .int 0), (0, .ref (mad g 62)), (1, .int a1), (2, .int a2), (3, .int a3)]) hx hb dX3_isRoad_63 hl (by decide) rfl (fun ls hl => ?_)
    obtain ⟨n53, h⟩ := h
    exact (kM_isRoad_L65 F hO n53) s1 a1 a3 0 0 H locs ls hS (lv_sub hl [2, 3, 5, 1, 0] rfl) h
  · have h := h.2 c3
    refine lv_aload_n hx hb dX3_isRoad_8 rfl (lv_at hl 0 rfl) ?_
    refine lv_iload_n hx hb dX3_isRoad_9 rfl (lv_at hl 3 rfl) ?_
    refine lv_aload_n hx hb dX3_isRoad_10 rfl (lv_at hl 0 rfl) ?_
    refine m_geti F hO hS 0 (by decide) rfl q1397 dX3_isRoad_11 ?_
    refine gw_callVi (As := [.int a3, .int (s1 0 0)]) (rest := []) F hS (tM_isLit l g hO s1 a3 (s1 0 0) _ h) (cwV 2 hts (lw_V q1642 q1644 qs43 q90 q1645) rfl rfl rfl (by decide +kernel) ⟨Nat.le_of_ble_eq_true rfl, Nat.le_of_ble_eq_true rfl⟩) (m_rec F hO hS) rfl hl.1 rfl (Nat.le_of_ble_eq_true rfl) dX3_isRoad_14 ⟨Nat.le_refl 0, Nat.le_refl 0⟩ (fun r55 s54 H locs h hS => ?_)
    obtain ⟨zr55, h⟩ := h
    refine lv_if_eq (tgt := 59) hx hb dX3_isRoad_17 (by decide) (fun c56 => ?_) (fun c56 => ?_)
    · have h := h.1 c56
      refine lv_iconst (v := 0) hx hb dX3_isRoad_59 (by decide) ?_
      refine lv_istore (lv' := [(4, .int 0), (0, .ref (mad g 62)), (1, .int a1), (2, .int a2), (3, .int a3)]) hx hb dX3_isRoad_60 hl (by decide) rfl (fun ls hl => ?_)
      refine lv_iconst (v := 0) hx hb dX3_isRoad_62 (by decide) ?_
      refine lv_istore (lv' := [(5, .int 0), (4, .int 0), (0, .ref (mad g 62)), (1, .int a1), (2, .int a2), (3, .int a3)]) hx hb dX3_isRoad_63 hl (by decide) rfl (fun ls hl => ?_)
      obtain ⟨n57, h⟩ := h
      exact (kM_isRoad_L65 F hO n57) s54 a1 a3 0 0 H locs ls hS (lv_sub hl [2, 3, 5, 1, 0] rfl) h
    · have h := h.2 c56
      refine lv_aload_n hx hb dX3_isRoad_20 rfl (lv_at hl 0 rfl) ?_
      refine m_geta F hO hS 2 (by decide) rfl q1399 dX3_isRoad_21 ?_
      refine lv_iload_n hx hb dX3_isRoad_24 rfl (lv_at hl 2 rfl) ?_
      obtain ⟨b58, h⟩ := h
      refine m_iald F hS 2 0 rfl rfl b58 dX3_isRoad_25 ?_
      refine lv_if_eq (tgt := 43) hx hb dX3_isRoad_26 (by decide) (fun c59 => ?_) (fun c59 => ?_)
      · have h := h.1 c59
        exact (kM_isRoad_J43 F hO) s54 a1 a3 H locs ls hS (lv_sub hl [0, 1, 3] rfl) h
      · have h := h.2 c59
        refine lv_aload_n hx hb dX3_isRoad_29 rfl (lv_at hl 0 rfl) ?_
        refine m_geta F hO hS 8 (by decide) rfl q1405 dX3_isRoad_30 ?_
        refine lv_iload_n hx hb dX3_isRoad_33 rfl (lv_at hl 2 rfl) ?_
        obtain ⟨b70, h⟩ := h
        refine m_iald F hS 8 6 rfl rfl b70 dX3_isRoad_34 ?_
        refine lv_iload_n hx hb dX3_isRoad_35 rfl (lv_at hl 3 rfl) ?_
        refine lv_ishr hx hb dX3_isRoad_36 ?_
        refine lv_iconst (v := 1) hx hb dX3_isRoad_37 (by decide) ?_
        refine lv_iand hx hb dX3_isRoad_38 ?_
        refine lv_iconst (v := 1) hx hb dX3_isRoad_39 (by decide) ?_
        refine lv_icmp_ne (tgt := 59) hx hb dX3_isRoad_40 (by decide) (fun c71 => ?_) (fun c71 => ?_)
        · have h := h.1 c71
          refine lv_iconst (v := 0) hx hb dX3_isRoad_59 (by decide) ?_
          refine lv_istore (lv' := [(4, .int 0), (0, .ref (mad g 62)), (1, .int a1), (2, .int a2), (3, .int a3)]) hx hb dX3_isRoad_60 hl (by decide) rfl (fun ls hl => ?_)
          refine lv_iconst (v := 0) hx hb dX3_isRoad_62 (by decide) ?_
          refine lv_istore (lv' := [(5, .int 0), (4, .int 0), (0, .ref (mad g 62)), (1, .int a1), (2, .int a2), (3, .int a3)]) hx hb dX3_isRoad_63 hl (by decide) rfl (fun ls hl => ?_)
          obtain ⟨n72, h⟩ := h
          exact (kM_isRoad_L65 F hO n72) s54 a1 a3 0 0 H locs ls hS (lv_sub hl [2, 3, 5, 1, 0] rfl) h
        · have h := h.2 c71
          exact (kM_isRoad_J43 F hO) s54 a1 a3 H locs ls hS (lv_sub hl [0, 1, 3] rfl) h
set_option maxHeartbeats 4000000 in
set_option maxRecDepth 100000 in
theorem tM_isRoad (l : Launch) (g : MG) (hO : MOK g) (σ : MS) (a1 : Int32) (a2 : Int32) (a3 : Int32) (post : Int32 → MS → Prop) (h : wM_isRoad post σ a1 a2 a3) : Met l yX3_isRoad (ws_ yX3_isRoad cX3_isRoad 8 (some .boolean)) rM_isRoad (va_Pc [.ref (mad g 62), .int a1, .int a2, .int a3] (gPre (MWd g) (mD g) (mcl g) (mty g) σ)) (va_Qi (zpost post) (gB (MWd g)) (MA g)) 0 0 (MA g) := by
  refine Met.ofW (cc := cX3_isRoad) (maxL := 8) (ret := (some .boolean)) (by decide) rfl ?_
  intro p e s m args below meth c s₁ B hml hv
  obtain ⟨rfl, hW, hK⟩ := hv
  have hts := atoms_spec (ws := (ws_ yX3_isRoad cX3_isRoad 8 (some .boolean))) B.pre
  have hts : ∀ w ∈ lw_all, w.before _ s = true := fun w h => hts w (List.mem_cons_of_mem _ h)
  have hl := lv_entry ([.ref (mad g 62), .int a1, .int a2, .int a3]) (n := 8) (Nat.le_of_ble_eq_true rfl)
  rw [lg_entry_eq]
  generalize (lg_sl ([.ref (mad g 62), .int a1, .int a2, .int a3]) ++ List.replicate (8 - (lg_sl ([.ref (mad g 62), .int a1, .int a2, .int a3])).length) Slot.unset).toArray = ls at hl ⊢
  exact kM_isRoad ⟨⟨B.exec, B.bytes, hml, findClass_of_methodNamed B.named, hts⟩, hK, B.returns, B.notSynchronized⟩ hO σ a1 a2 a3 s.heap [] ls ⟨hW, va_S.rf⟩ hl h
def wM_tonight_L147 (post : Int32 → MS → Prop) : Nat → MS → Int32 → Int32 → Int32 → Int32 → Prop
  | 0, _, _, _, _, _ => False
  | n + 1, σ, x15, x16, x17, x18 => ((σ 1 0) ≤ x18 → post x17 σ) ∧ (¬ ((σ 1 0) ≤ x18) → (x18 = x15 → (∀ x21 : Int32, x21 = x17 ||| 0 → ∀ x22 : Int32, x22 = x18 + 1 → wM_tonight_L147 post n σ x15 x16 x21 x22)) ∧ (¬ (x18 = x15) → wM_isRoad (fun r24 s23 => (∀ v26 : Int32, v26 = (if r24 = 0 then 0 else (1 : Int32) <<< (x18 &&& 31)) → (∀ x28 : Int32, x28 = x17 ||| v26 → ∀ x29 : Int32, x29 = x18 + 1 → wM_tonight_L147 post n s23 x15 x16 x28 x29))) σ x16 x15 x18))
def wM_tonight_J99 (post : Int32 → MS → Prop) (K46 : MS → Int32 → Int32 → Int32 → Int32 → Int32 → Prop) (σ : MS) (x37 : Int32) (x38 : Int32) (x39 : Int32) (x40 : Int32) : Prop := (((¬ (x40 = 0) → vp_in x39 16)) ∧ ∀ v42 : Int32, v42 = (if x40 = 0 then 0 else σ 21 x39.toNatClampNeg) → wM_party (fun r46 s45 => (∀ x47 : Int32, x47 = x38 ||| r46 → ∀ x48 : Int32, x48 = x39 + 1 → K46 s45 x37 v42 x47 x40 x48)) σ x39)
def wM_tonight_J98 (post : Int32 → MS → Prop) (K46 : MS → Int32 → Int32 → Int32 → Int32 → Int32 → Prop) (σ : MS) (x34 : Int32) (x35 : Int32) (x36 : Int32) : Prop := wM_tonight_J99 post K46 σ x34 x35 x36 0
def wM_tonight_L46 (post : Int32 → MS → Prop) : Nat → MS → Int32 → Int32 → Int32 → Int32 → Int32 → Prop
  | 0, _, _, _, _, _, _ => False
  | n + 1, σ, x8, x9, x10, x11, x12 => ((σ 18 0) ≤ x12 → (¬ (x11 = 0) → ∃ n30, wM_tonight_L147 post n30 σ x9 x10 0 0) ∧ (x11 = 0 → post (-2) σ)) ∧ (¬ ((σ 18 0) ≤ x12) → (¬ (((x8 >>> (x12 &&& 31)) &&& 1) = 1) → (∀ x32 : Int32, x32 = x12 + 1 → wM_tonight_L46 post n σ x8 x9 x10 x11 x32)) ∧ (((x8 >>> (x12 &&& 31)) &&& 1) = 1 → (x11 = 0 → wM_tonight_J98 post (wM_tonight_L46 post n) σ x8 x10 x12) ∧ (¬ (x11 = 0) → wM_isAt (fun r50 s49 => (((¬ (r50 = 0) → (¬ (x9 < 0) → vp_in x12 16))) ∧ ∀ v54 : Int32, v54 = (if r50 = 0 then 0 else if x9 < 0 then 1 else if (s49 21 x12.toNatClampNeg) = x9 then 1 else 0) → (((¬ (v54 = 0) → vp_in x12 16)) ∧ ∀ v58 : Int32, v58 = (if v54 = 0 then 0 else s49 21 x12.toNatClampNeg) → wM_party (fun r62 s61 => (∀ x63 : Int32, x63 = x10 ||| r62 → ∀ x64 : Int32, x64 = x12 + 1 → wM_tonight_L46 post n s61 x8 v58 x63 v54 x64)) s49 x12))) σ x12)))
def wM_tonight (post : Int32 → MS → Prop) (σ : MS) (a1 : Int32) : Prop := wM_arePersons (fun r2 s1 => (r2 = 0 → post (-1) s1) ∧ (¬ (r2 = 0) → (¬ (a1 = 0) → wM_areWhole (fun r6 s5 => (r6 = 0 → ∃ n65, wM_tonight_L46 post n65 s5 a1 (-1) 0 0 0) ∧ (¬ (r6 = 0) → wM_isDark (fun r67 s66 => (∀ v69 : Int32, v69 = (if r67 = 0 then 0 else 1) → ∃ n71, wM_tonight_L46 post n71 s66 a1 (-1) 0 v69 0)) s5 (s5 0 0))) s1 a1) ∧ (a1 = 0 → post (-1) s1))) σ a1
abbrev rM_tonight : Room := { frames := 5, cells := 0, slots := 0, locals := 128 }
set_option maxHeartbeats 4000000 in
set_option maxRecDepth 100000 in
theorem kM_tonight_L147 {p : Program} {l : Launch} {e : Env} {s : State} {m : MethodId} {args : Array Value} {below : List Frame} {meth : Method} {c : Code} {g : MG} {post : Int32 → MS → Prop} (F : gFx p s m c meth args cX3_tonight 7 RX3 (some .int) (mD g) (mcl g) (mty g)) (hO : MOK g) : ∀ (n : Nat) (σ : MS) (x15 : Int32) (x16 : Int32) (x17 : Int32) (x18 : Int32) (H : Heap) (locs : List Loc) (ls : Array Slot), gSt (MWd g) (MA g) s σ H locs → lv_has ls 7 [(0, .ref (mad g 62)), (2, .int x15), (3, .int x16), (5, .int x17), (6, .int x18)] → wM_tonight_L147 post n σ x15 x16 x17 x18 → W p l e rM_tonight s m args below meth c H locs 0 0 (MQ below (va_Qi post (gB (MWd g)) (MA g)) args s 0 0 (MA g)) (F0 m 147 ls []) := by
  have hx := F.hx
  have hb := F.hb
  have hts := F.1.2.2.2.2
  have hown := F.1.2.2.2.1
  intro n
  induction n with
  | zero =>
    intro σ x15 x16 x17 x18 H locs ls hS hl h
    exact False.elim h
  | succ n ih =>
    intro σ x15 x16 x17 x18 H locs ls hS hl h
    rw [wM_tonight_L147] at h
    refine lv_iload hx hb dX3_tonight_147 (lv_at hl 4 rfl) ?_
    refine lv_aload_n hx hb dX3_tonight_149 rfl (lv_at hl 0 rfl) ?_
    refine m_geti F hO hS 1 (by decide) rfl q1398 dX3_tonight_150 ?_
    refine lv_icmp_ge (tgt := 192) hx hb dX3_tonight_153 (by decide) (fun c19 => ?_) (fun c19 => ?_)
    · have h := h.1 c19
      refine lv_iload hx hb dX3_tonight_192 (lv_at hl 3 rfl) ?_
      exact gw_iret F hS h dX3_tonight_194
    · have h := h.2 c19
      refine lv_iload hx hb dX3_tonight_156 (lv_at hl 3 rfl) ?_
      refine lv_iload hx hb dX3_tonight_158 (lv_at hl 4 rfl) ?_
      refine lv_iload_n hx hb dX3_tonight_160 rfl (lv_at hl 1 rfl) ?_
      refine lv_icmp_eq (tgt := 182) hx hb dX3_tonight_161 (by decide) (fun c20 => ?_) (fun c20 => ?_)
      · have h := h.1 c20
        refine lv_iconst (v := 0) hx hb dX3_tonight_182 (by decide) ?_
        refine lv_ior hx hb dX3_tonight_183 ?_
        refine lv_topi (fun x21 ex21 => ?_)
        have h := h x21 ex21
        refine lv_istore (lv' := [(5, .int x21), (0, .ref (mad g 62)), (2, .int x15), (3, .int x16), (6, .int x18)]) hx hb dX3_tonight_184 hl (by decide) rfl (fun ls hl => ?_)
        obtain ⟨x22, ex22⟩ : ∃ y : Int32, y = x18 + 1 := ⟨_, rfl⟩
        have h := h x22 ex22
        refine lv_iinc (v := x22) (lv' := [(6, .int x22), (5, .int x21), (0, .ref (mad g 62)), (2, .int x15), (3, .int x16)]) hx hb dX3_tonight_186 hl (k := 4) rfl (by rw [ex22]; rfl) (by decide) rfl (fun ls hl => ?_)
        refine lv_goto (tgt := 147) hx hb dX3_tonight_189 (by decide) ?_
        exact ih σ x15 x16 x21 x22 H locs ls hS (lv_sub hl [2, 3, 4, 1, 0] rfl) h
      · have h := h.2 c20
        refine lv_aload_n hx hb dX3_tonight_164 rfl (lv_at hl 0 rfl) ?_
        refine lv_iload_n hx hb dX3_tonight_165 rfl (lv_at hl 2 rfl) ?_
        refine lv_iload_n hx hb dX3_tonight_166 rfl (lv_at hl 1 rfl) ?_
        refine lv_iload hx hb dX3_tonight_167 (lv_at hl 4 rfl) ?_
        refine gw_callVi (As := [.int x16, .int x15, .int x18]) (rest := [.int x17]) F hS (tM_isRoad l g hO σ x16 x15 x18 _ h) (cwV 3 hts (lw_V q1897 q1899 qs74 q90 q1900) rfl rfl rfl (by decide +kernel) ⟨Nat.le_of_ble_eq_true rfl, Nat.le_of_ble_eq_true rfl⟩) (m_rec F hO hS) rfl hl.1 rfl (Nat.le_of_ble_eq_true rfl) dX3_tonight_169 ⟨Nat.le_refl 0, Nat.le_refl 0⟩ (fun r24 s23 H locs h hS => ?_)
        obtain ⟨zr24, h⟩ := h
        refine gcut (P := ∀ (v26 : Int32) (H : Heap) (locs : List Loc) (ls : Array Slot), v26 = (if r24 = 0 then 0 else (1 : Int32) <<< (x18 &&& 31)) → gSt (MWd g) (MA g) s s23 H locs → lv_has ls 7 [(0, .ref (mad g 62)), (2, .int x15), (3, .int x16), (6, .int x18)] → W p l e rM_tonight s m args below meth c H locs 0 0 (MQ below (va_Qi post (gB (MWd g)) (MA g)) args s 0 0 (MA g)) (F0 m 183 ls [.int v26, .int x17])) (fun v26 H locs ls ev26 hS hl => ?_) (fun J27 => ?_)
        · have h := h v26 ev26
          refine lv_ior hx hb dX3_tonight_183 ?_
          refine lv_topi (fun x28 ex28 => ?_)
          have h := h x28 ex28
          refine lv_istore (lv' := [(5, .int x28), (0, .ref (mad g 62)), (2, .int x15), (3, .int x16), (6, .int x18)]) hx hb dX3_tonight_184 hl (by decide) rfl (fun ls hl => ?_)
          obtain ⟨x29, ex29⟩ : ∃ y : Int32, y = x18 + 1 := ⟨_, rfl⟩
          have h := h x29 ex29
          refine lv_iinc (v := x29) (lv' := [(6, .int x29), (5, .int x28), (0, .ref (mad g 62)), (2, .int x15), (3, .int x16)]) hx hb dX3_tonight_186 hl (k := 4) rfl (by rw [ex29]; rfl) (by decide) rfl (fun ls hl => ?_)
          refine lv_goto (tgt := 147) hx hb dX3_tonight_189 (by decide) ?_
          exact ih s23 x15 x16 x28 x29 H locs ls hS (lv_sub hl [2, 3, 4, 1, 0] rfl) h
        · refine lv_if_eq (tgt := 182) hx hb dX3_tonight_172 (by decide) (fun c25 => ?_) (fun c25 => ?_)
          · refine lv_iconst (v := 0) hx hb dX3_tonight_182 (by decide) ?_
            exact J27 _ H locs ls (by first | with_reducible rfl | ((try rw [if_pos c25]); done)) hS (lv_sub hl [0, 1, 2, 4] rfl)
          · refine lv_iconst (v := 1) hx hb dX3_tonight_175 (by decide) ?_
            refine lv_iload hx hb dX3_tonight_176 (lv_at hl 4 rfl) ?_
            refine lv_ishl hx hb dX3_tonight_178 ?_
            refine lv_goto (tgt := 183) hx hb dX3_tonight_179 (by decide) ?_
            exact J27 _ H locs ls (by first | with_reducible rfl | ((try rw [if_neg c25]); done)) hS (lv_sub hl [0, 1, 2, 4] rfl)
set_option maxHeartbeats 4000000 in
set_option maxRecDepth 100000 in
theorem kM_tonight_J99 {p : Program} {l : Launch} {e : Env} {s : State} {m : MethodId} {args : Array Value} {below : List Frame} {meth : Method} {c : Code} {g : MG} {post : Int32 → MS → Prop} {K46 : MS → Int32 → Int32 → Int32 → Int32 → Int32 → Prop} (F : gFx p s m c meth args cX3_tonight 7 RX3 (some .int) (mD g) (mcl g) (mty g)) (hO : MOK g) (hK46 : ∀ (σ : MS) (z0 : Int32) (z1 : Int32) (z2 : Int32) (z3 : Int32) (z4 : Int32) (H : Heap) (locs : List Loc) (ls : Array Slot), gSt (MWd g) (MA g) s σ H locs → lv_has ls 7 [(0, .ref (mad g 62)), (1, .int z0), (2, .int z1), (3, .int z2), (4, .int z3), (5, .int z4)] → K46 σ z0 z1 z2 z3 z4 → W p l e rM_tonight s m args below meth c H locs 0 0 (MQ below (va_Qi post (gB (MWd g)) (MA g)) args s 0 0 (MA g)) (F0 m 46 ls [])) : ∀ (σ : MS) (x37 : Int32) (x38 : Int32) (x39 : Int32) (x40 : Int32) (H : Heap) (locs : List Loc) (ls : Array Slot), gSt (MWd g) (MA g) s σ H locs → lv_has ls 7 [(0, .ref (mad g 62)), (1, .int x37), (3, .int x38), (5, .int x39)] → wM_tonight_J99 post K46 σ x37 x38 x39 x40 → W p l e rM_tonight s m args below meth c H locs 0 0 (MQ below (va_Qi post (gB (MWd g)) (MA g)) args s 0 0 (MA g)) (F0 m 99 ls [.int x40]) := by
  have hx := F.hx
  have hb := F.hb
  have hts := F.1.2.2.2.2
  have hown := F.1.2.2.2.1
  intro σ x37 x38 x39 x40 H locs ls hS hl h
  rw [wM_tonight_J99] at h
  refine lv_istore (lv' := [(4, .int x40), (0, .ref (mad g 62)), (1, .int x37), (3, .int x38), (5, .int x39)]) hx hb dX3_tonight_99 hl (by decide) rfl (fun ls hl => ?_)
  refine lv_iload hx hb dX3_tonight_101 (lv_at hl 0 rfl) ?_
  obtain ⟨b43, h⟩ := h
  refine gcut (P := ∀ (v42 : Int32) (H : Heap) (locs : List Loc) (ls : Array Slot), v42 = (if x40 = 0 then 0 else σ 21 x39.toNatClampNeg) → gSt (MWd g) (MA g) s σ H locs → lv_has ls 7 [(0, .ref (mad g 62)), (1, .int x37), (3, .int x38), (4, .int x40), (5, .int x39)] → W p l e rM_tonight s m args below meth c H locs 0 0 (MQ below (va_Qi post (gB (MWd g)) (MA g)) args s 0 0 (MA g)) (F0 m 117 ls [.int v42])) (fun v42 H locs ls ev42 hS hl => ?_) (fun J44 => ?_)
  · have h := h v42 ev42
    refine lv_istore_n (lv' := [(2, .int v42), (0, .ref (mad g 62)), (1, .int x37), (3, .int x38), (4, .int x40), (5, .int x39)]) hx hb dX3_tonight_117 rfl hl (by decide) rfl (fun ls hl => ?_)
    refine lv_iload_n hx hb dX3_tonight_118 rfl (lv_at hl 3 rfl) ?_
    refine lv_aload_n hx hb dX3_tonight_119 rfl (lv_at hl 1 rfl) ?_
    refine lv_iload hx hb dX3_tonight_120 (lv_at hl 5 rfl) ?_
    refine gw_callVi (As := [.int x39]) (rest := [.int x38]) F hS (tM_party l g hO σ x39 _ h) (cwV 1 hts (lw_V q1747 q1749 qs57 q90 q1750) rfl rfl rfl (by decide +kernel) ⟨Nat.le_of_ble_eq_true rfl, Nat.le_of_ble_eq_true rfl⟩) (m_rec F hO hS) rfl hl.1 rfl (Nat.le_of_ble_eq_true rfl) dX3_tonight_122 ⟨Nat.le_refl 0, Nat.le_refl 0⟩ (fun r46 s45 H locs h hS => ?_)
    refine lv_ior hx hb dX3_tonight_125 ?_
    refine lv_topi (fun x47 ex47 => ?_)
    have h := h x47 ex47
    refine lv_istore_n (lv' := [(3, .int x47), (2, .int v42), (0, .ref (mad g 62)), (1, .int x37), (4, .int x40), (5, .int x39)]) hx hb dX3_tonight_126 rfl hl (by decide) rfl (fun ls hl => ?_)
    obtain ⟨x48, ex48⟩ : ∃ y : Int32, y = x39 + 1 := ⟨_, rfl⟩
    have h := h x48 ex48
    refine lv_iinc (v := x48) (lv' := [(5, .int x48), (3, .int x47), (2, .int v42), (0, .ref (mad g 62)), (1, .int x37), (4, .int x40)]) hx hb dX3_tonight_127 hl (k := 5) rfl (by rw [ex48]; rfl) (by decide) rfl (fun ls hl => ?_)
    refine lv_goto (tgt := 46) hx hb dX3_tonight_130 (by decide) ?_
    exact hK46 s45 x37 v42 x47 x40 x48 H locs ls hS (lv_sub hl [3, 4, 2, 1, 5, 0] rfl) h
  · refine lv_if_eq (tgt := 116) hx hb dX3_tonight_103 (by decide) (fun c41 => ?_) (fun c41 => ?_)
    · refine lv_iconst (v := 0) hx hb dX3_tonight_116 (by decide) ?_
      exact J44 _ H locs ls (by first | with_reducible rfl | ((try rw [if_pos c41]); done)) hS (lv_sub hl [1, 2, 3, 0, 4] rfl)
    · refine lv_aload_n hx hb dX3_tonight_106 rfl (lv_at hl 1 rfl) ?_
      refine m_geta F hO hS 21 (by decide) rfl q1418 dX3_tonight_107 ?_
      refine lv_iload hx hb dX3_tonight_110 (lv_at hl 4 rfl) ?_
      refine m_iald F hS 21 17 rfl rfl ((b43 c41)) dX3_tonight_112 ?_
      refine lv_goto (tgt := 117) hx hb dX3_tonight_113 (by decide) ?_
      exact J44 _ H locs ls (by first | with_reducible rfl | ((try rw [if_neg c41]); done)) hS (lv_sub hl [1, 2, 3, 0, 4] rfl)
set_option maxHeartbeats 4000000 in
set_option maxRecDepth 100000 in
theorem kM_tonight_J98 {p : Program} {l : Launch} {e : Env} {s : State} {m : MethodId} {args : Array Value} {below : List Frame} {meth : Method} {c : Code} {g : MG} {post : Int32 → MS → Prop} {K46 : MS → Int32 → Int32 → Int32 → Int32 → Int32 → Prop} (F : gFx p s m c meth args cX3_tonight 7 RX3 (some .int) (mD g) (mcl g) (mty g)) (hO : MOK g) (hK46 : ∀ (σ : MS) (z0 : Int32) (z1 : Int32) (z2 : Int32) (z3 : Int32) (z4 : Int32) (H : Heap) (locs : List Loc) (ls : Array Slot), gSt (MWd g) (MA g) s σ H locs → lv_has ls 7 [(0, .ref (mad g 62)), (1, .int z0), (2, .int z1), (3, .int z2), (4, .int z3), (5, .int z4)] → K46 σ z0 z1 z2 z3 z4 → W p l e rM_tonight s m args below meth c H locs 0 0 (MQ below (va_Qi post (gB (MWd g)) (MA g)) args s 0 0 (MA g)) (F0 m 46 ls [])) : ∀ (σ : MS) (x34 : Int32) (x35 : Int32) (x36 : Int32) (H : Heap) (locs : List Loc) (ls : Array Slot), gSt (MWd g) (MA g) s σ H locs → lv_has ls 7 [(0, .ref (mad g 62)), (1, .int x34), (3, .int x35), (5, .int x36)] → wM_tonight_J98 post K46 σ x34 x35 x36 → W p l e rM_tonight s m args below meth c H locs 0 0 (MQ below (va_Qi post (gB (MWd g)) (MA g)) args s 0 0 (MA g)) (F0 m 98 ls []) := by
  have hx := F.hx
  have hb := F.hb
  have hts := F.1.2.2.2.2
  have hown := F.1.2.2.2.1
  intro σ x34 x35 x36 H locs ls hS hl h
  rw [wM_tonight_J98] at h
  refine lv_iconst (v := 0) hx hb dX3_tonight_98 (by decide) ?_
  exact (kM_tonight_J99 F hO hK46) σ x34 x35 x36 0 H locs ls hS (lv_sub hl [0, 1, 2, 3] rfl) h
set_option maxHeartbeats 4000000 in
set_option maxRecDepth 100000 in
theorem kM_tonight_L46 {p : Program} {l : Launch} {e : Env} {s : State} {m : MethodId} {args : Array Value} {below : List Frame} {meth : Method} {c : Code} {g : MG} {post : Int32 → MS → Prop} (F : gFx p s m c meth args cX3_tonight 7 RX3 (some .int) (mD g) (mcl g) (mty g)) (hO : MOK g) : ∀ (n : Nat) (σ : MS) (x8 : Int32) (x9 : Int32) (x10 : Int32) (x11 : Int32) (x12 : Int32) (H : Heap) (locs : List Loc) (ls : Array Slot), gSt (MWd g) (MA g) s σ H locs → lv_has ls 7 [(0, .ref (mad g 62)), (1, .int x8), (2, .int x9), (3, .int x10), (4, .int x11), (5, .int x12)] → wM_tonight_L46 post n σ x8 x9 x10 x11 x12 → W p l e rM_tonight s m args below meth c H locs 0 0 (MQ below (va_Qi post (gB (MWd g)) (MA g)) args s 0 0 (MA g)) (F0 m 46 ls []) := by
  have hx := F.hx
  have hb := F.hb
  have hts := F.1.2.2.2.2
  have hown := F.1.2.2.2.1
  intro n
  induction n with
  | zero =>
    intro σ x8 x9 x10 x11 x12 H locs ls hS hl h
    exact False.elim h
  | succ n ih =>
    intro σ x8 x9 x10 x11 x12 H locs ls hS hl h
    rw [wM_tonight_L46] at h
    refine lv_iload hx hb dX3_tonight_46 (lv_at hl 5 rfl) ?_
    refine lv_aload_n hx hb dX3_tonight_48 rfl (lv_at hl 0 rfl) ?_
    refine m_geti F hO hS 18 (by decide) rfl q1415 dX3_tonight_49 ?_
    refine lv_icmp_ge (tgt := 133) hx hb dX3_tonight_52 (by decide) (fun c13 => ?_) (fun c13 => ?_)
    · have h := h.1 c13
      refine lv_iload hx hb dX3_tonight_133 (lv_at hl 4 rfl) ?_
      refine lv_if_ne (tgt := 141) hx hb dX3_tonight_135 (by decide) (fun c14 => ?_) (fun c14 => ?_)
      · have h := h.1 c14
        refine lv_iconst (v := 0) hx hb dX3_tonight_141 (by decide) ?_
        refine lv_istore (lv' := [(5, .int 0), (0, .ref (mad g 62)), (1, .int x8), (2, .int x9), (3, .int x10), (4, .int x11)]) hx hb dX3_tonight_142 hl (by decide) rfl (fun ls hl => ?_)
        refine lv_iconst (v := 0) hx hb dX3_tonight_144 (by decide) ?_
        refine lv_istore (lv' := [(6, .int 0), (5, .int 0), (0, .ref (mad g 62)), (1, .int x8), (2, .int x9), (3, .int x10), (4, .int x11)]) hx hb dX3_tonight_145 hl (by decide) rfl (fun ls hl => ?_)
        obtain ⟨n30, h⟩ := h
        exact (kM_tonight_L147 F hO n30) σ x9 x10 0 0 H locs ls hS (lv_sub hl [2, 4, 5, 1, 0] rfl) h
      · have h := h.2 c14
        refine lv_bipush (v := (-2)) hx hb dX3_tonight_138 (by decide) ?_
        exact gw_iret F hS h dX3_tonight_140
    · have h := h.2 c13
      refine lv_iload_n hx hb dX3_tonight_55 rfl (lv_at hl 1 rfl) ?_
      refine lv_iload hx hb dX3_tonight_56 (lv_at hl 5 rfl) ?_
      refine lv_ishr hx hb dX3_tonight_58 ?_
      refine lv_iconst (v := 1) hx hb dX3_tonight_59 (by decide) ?_
      refine lv_iand hx hb dX3_tonight_60 ?_
      refine lv_iconst (v := 1) hx hb dX3_tonight_61 (by decide) ?_
      refine lv_icmp_ne (tgt := 127) hx hb dX3_tonight_62 (by decide) (fun c31 => ?_) (fun c31 => ?_)
      · have h := h.1 c31
        obtain ⟨x32, ex32⟩ : ∃ y : Int32, y = x12 + 1 := ⟨_, rfl⟩
        have h := h x32 ex32
        refine lv_iinc (v := x32) (lv' := [(5, .int x32), (0, .ref (mad g 62)), (1, .int x8), (2, .int x9), (3, .int x10), (4, .int x11)]) hx hb dX3_tonight_127 hl (k := 5) rfl (by rw [ex32]; rfl) (by decide) rfl (fun ls hl => ?_)
        refine lv_goto (tgt := 46) hx hb dX3_tonight_130 (by decide) ?_
        exact ih σ x8 x9 x10 x11 x32 H locs ls hS (lv_sub hl [1, 2, 3, 4, 5, 0] rfl) h
      · have h := h.2 c31
        refine lv_iload hx hb dX3_tonight_65 (lv_at hl 4 rfl) ?_
        refine lv_if_eq (tgt := 98) hx hb dX3_tonight_67 (by decide) (fun c33 => ?_) (fun c33 => ?_)
        · have h := h.1 c33
          exact (kM_tonight_J98 F hO ih) σ x8 x10 x12 H locs ls hS (lv_sub hl [0, 1, 3, 5] rfl) h
        · have h := h.2 c33
          refine lv_aload_n hx hb dX3_tonight_70 rfl (lv_at hl 0 rfl) ?_
          refine lv_iload hx hb dX3_tonight_71 (lv_at hl 5 rfl) ?_
          refine gw_callVi (As := [.int x12]) (rest := []) F hS (tM_isAt l g hO σ x12 _ h) (cwV 1 hts (lw_V q1717 q1719 qs53 q90 q1720) rfl rfl rfl (by decide +kernel) ⟨Nat.le_of_ble_eq_true rfl, Nat.le_of_ble_eq_true rfl⟩) (m_rec F hO hS) rfl hl.1 rfl (Nat.le_of_ble_eq_true rfl) dX3_tonight_73 ⟨Nat.le_refl 0, Nat.le_refl 0⟩ (fun r50 s49 H locs h hS => ?_)
          obtain ⟨zr50, h⟩ := h
          obtain ⟨b55, h⟩ := h
          refine gcut (P := ∀ (v54 : Int32) (H : Heap) (locs : List Loc) (ls : Array Slot), v54 = (if r50 = 0 then 0 else if x9 < 0 then 1 else if (s49 21 x12.toNatClampNeg) = x9 then 1 else 0) → gSt (MWd g) (MA g) s s49 H locs → lv_has ls 7 [(0, .ref (mad g 62)), (1, .int x8), (3, .int x10), (5, .int x12)] → W p l e rM_tonight s m args below meth c H locs 0 0 (MQ below (va_Qi post (gB (MWd g)) (MA g)) args s 0 0 (MA g)) (F0 m 99 ls [.int v54])) (fun v54 H locs ls ev54 hS hl => ?_) (fun J56 => ?_)
          · have h := h v54 ev54
            refine lv_istore (lv' := [(4, .int v54), (0, .ref (mad g 62)), (1, .int x8), (3, .int x10), (5, .int x12)]) hx hb dX3_tonight_99 hl (by decide) rfl (fun ls hl => ?_)
            refine lv_iload hx hb dX3_tonight_101 (lv_at hl 0 rfl) ?_
            obtain ⟨b59, h⟩ := h
            refine gcut (P := ∀ (v58 : Int32) (H : Heap) (locs : List Loc) (ls : Array Slot), v58 = (if v54 = 0 then 0 else s49 21 x12.toNatClampNeg) → gSt (MWd g) (MA g) s s49 H locs → lv_has ls 7 [(0, .ref (mad g 62)), (1, .int x8), (3, .int x10), (4, .int v54), (5, .int x12)] → W p l e rM_tonight s m args below meth c H locs 0 0 (MQ below (va_Qi post (gB (MWd g)) (MA g)) args s 0 0 (MA g)) (F0 m 117 ls [.int v58])) (fun v58 H locs ls ev58 hS hl => ?_) (fun J60 => ?_)
            · have h := h v58 ev58
              refine lv_istore_n (lv' := [(2, .int v58), (0, .ref (mad g 62)), (1, .int x8), (3, .int x10), (4, .int v54), (5, .int x12)]) hx hb dX3_tonight_117 rfl hl (by decide) rfl (fun ls hl => ?_)
              refine lv_iload_n hx hb dX3_tonight_118 rfl (lv_at hl 3 rfl) ?_
              refine lv_aload_n hx hb dX3_tonight_119 rfl (lv_at hl 1 rfl) ?_
              refine lv_iload hx hb dX3_tonight_120 (lv_at hl 5 rfl) ?_
              refine gw_callVi (As := [.int x12]) (rest := [.int x10]) F hS (tM_party l g hO s49 x12 _ h) (cwV 1 hts (lw_V q1747 q1749 qs57 q90 q1750) rfl rfl rfl (by decide +kernel) ⟨Nat.le_of_ble_eq_true rfl, Nat.le_of_ble_eq_true rfl⟩) (m_rec F hO hS) rfl hl.1 rfl (Nat.le_of_ble_eq_true rfl) dX3_tonight_122 ⟨Nat.le_refl 0, Nat.le_refl 0⟩ (fun r62 s61 H locs h hS => ?_)
              refine lv_ior hx hb dX3_tonight_125 ?_
              refine lv_topi (fun x63 ex63 => ?_)
              have h := h x63 ex63
              refine lv_istore_n (lv' := [(3, .int x63), (2, .int v58), (0, .ref (mad g 62)), (1, .int x8), (4, .int v54), (5, .int x12)]) hx hb dX3_tonight_126 rfl hl (by decide) rfl (fun ls hl => ?_)
              obtain ⟨x64, ex64⟩ : ∃ y : Int32, y = x12 + 1 := ⟨_, rfl⟩
              have h := h x64 ex64
              refine lv_iinc (v := x64) (lv' := [(5, .int x64), (3, .int x63), (2, .int v58), (0, .ref (mad g 62)), (1, .int x8), (4, .int v54)]) hx hb dX3_tonight_127 hl (k := 5) rfl (by rw [ex64]; rfl) (by decide) rfl (fun ls hl => ?_)
              refine lv_goto (tgt := 46) hx hb dX3_tonight_130 (by decide) ?_
              exact ih s61 x8 v58 x63 v54 x64 H locs ls hS (lv_sub hl [3, 4, 2, 1, 5, 0] rfl) h
            · refine lv_if_eq (tgt := 116) hx hb dX3_tonight_103 (by decide) (fun c57 => ?_) (fun c57 => ?_)
              · refine lv_iconst (v := 0) hx hb dX3_tonight_116 (by decide) ?_
                exact J60 _ H locs ls (by first | with_reducible rfl | ((try rw [if_pos c57]); done)) hS (lv_sub hl [1, 2, 3, 0, 4] rfl)
              · refine lv_aload_n hx hb dX3_tonight_106 rfl (lv_at hl 1 rfl) ?_
                refine m_geta F hO hS 21 (by decide) rfl q1418 dX3_tonight_107 ?_
                refine lv_iload hx hb dX3_tonight_110 (lv_at hl 4 rfl) ?_
                refine m_iald F hS 21 17 rfl rfl ((b59 c57)) dX3_tonight_112 ?_
                refine lv_goto (tgt := 117) hx hb dX3_tonight_113 (by decide) ?_
                exact J60 _ H locs ls (by first | with_reducible rfl | ((try rw [if_neg c57]); done)) hS (lv_sub hl [1, 2, 3, 0, 4] rfl)
          · refine lv_if_eq (tgt := 98) hx hb dX3_tonight_76 (by decide) (fun c51 => ?_) (fun c51 => ?_)
            · refine lv_iconst (v := 0) hx hb dX3_tonight_98 (by decide) ?_
              exact J56 _ H locs ls (by first | with_reducible rfl | ((try rw [if_pos c51]); done)) hS (lv_sub hl [0, 1, 3, 5] rfl)
            · refine lv_iload_n hx hb dX3_tonight_79 rfl (lv_at hl 2 rfl) ?_
              refine lv_if_lt (tgt := 94) hx hb dX3_tonight_80 (by decide) (fun c52 => ?_) (fun c52 => ?_)
              · refine lv_iconst (v := 1) hx hb dX3_tonight_94 (by decide) ?_
                refine lv_goto (tgt := 99) hx hb dX3_tonight_95 (by decide) ?_
                exact J56 _ H locs ls (by first | with_reducible rfl | ((try rw [if_neg c51]); (try rw [if_pos c52]); done)) hS (lv_sub hl [0, 1, 3, 5] rfl)
              · refine lv_aload_n hx hb dX3_tonight_83 rfl (lv_at hl 0 rfl) ?_
                refine m_geta F hO hS 21 (by decide) rfl q1418 dX3_tonight_84 ?_
                refine lv_iload hx hb dX3_tonight_87 (lv_at hl 5 rfl) ?_
                refine m_iald F hS 21 17 rfl rfl (((b55 c51) c52)) dX3_tonight_89 ?_
                refine lv_iload_n hx hb dX3_tonight_90 rfl (lv_at hl 2 rfl) ?_
                refine lv_icmp_ne (tgt := 98) hx hb dX3_tonight_91 (by decide) (fun c53 => ?_) (fun c53 => ?_)
                · refine lv_iconst (v := 0) hx hb dX3_tonight_98 (by decide) ?_
                  exact J56 _ H locs ls (by first | with_reducible rfl | ((try rw [if_neg c51]); (try rw [if_neg c52]); (try rw [if_neg c53]); done)) hS (lv_sub hl [0, 1, 3, 5] rfl)
                · refine lv_iconst (v := 1) hx hb dX3_tonight_94 (by decide) ?_
                  refine lv_goto (tgt := 99) hx hb dX3_tonight_95 (by decide) ?_
                  exact J56 _ H locs ls (by first | with_reducible rfl | ((try rw [if_neg c51]); (try rw [if_neg c52]); (try rw [if_pos c53]); done)) hS (lv_sub hl [0, 1, 3, 5] rfl)
set_option maxHeartbeats 4000000 in
set_option maxRecDepth 100000 in
theorem kM_tonight {p : Program} {l : Launch} {e : Env} {s : State} {m : MethodId} {args : Array Value} {below : List Frame} {meth : Method} {c : Code} {g : MG} {post : Int32 → MS → Prop} (F : gFx p s m c meth args cX3_tonight 7 RX3 (some .int) (mD g) (mcl g) (mty g)) (hO : MOK g) (σ : MS) (a1 : Int32) (H : Heap) (locs : List Loc) (ls : Array Slot) (hS : gSt (MWd g) (MA g) s σ H locs) (hl : lv_has ls 7 [(0, .ref (mad g 62)), (1, .int a1)]) (h : wM_tonight post σ a1) : W p l e rM_tonight s m args below meth c H locs 0 0 (MQ below (va_Qi post (gB (MWd g)) (MA g)) args s 0 0 (MA g)) (F0 m 0 ls []) := by
  have hx := F.hx
  have hb := F.hb
  have hts := F.1.2.2.2.2
  have hown := F.1.2.2.2.1
  rw [wM_tonight] at h
  refine lv_aload_n hx hb dX3_tonight_0 rfl (lv_at hl 0 rfl) ?_
  refine lv_iload_n hx hb dX3_tonight_1 rfl (lv_at hl 1 rfl) ?_
  refine gw_callVi (As := [.int a1]) (rest := []) F hS (tM_arePersons l g hO σ a1 _ h) (cwV 1 hts (lw_V q1791 q1793 qs60 q90 q1794) rfl rfl rfl (by decide +kernel) ⟨Nat.le_of_ble_eq_true rfl, Nat.le_of_ble_eq_true rfl⟩) (m_rec F hO hS) rfl hl.1 rfl (Nat.le_of_ble_eq_true rfl) dX3_tonight_2 ⟨Nat.le_refl 0, Nat.le_refl 0⟩ (fun r2 s1 H locs h hS => ?_)
  obtain ⟨zr2, h⟩ := h
  refine lv_if_eq (tgt := 12) hx hb dX3_tonight_5 (by decide) (fun c3 => ?_) (fun c3 => ?_)
  · have h := h.1 c3
    refine lv_iconst (v := (-1)) hx hb dX3_tonight_12 (by decide) ?_
    exact gw_iret F hS h dX3_tonight_13
  · have h := h.2 c3
    refine lv_iload_n hx hb dX3_tonight_8 rfl (lv_at hl 1 rfl) ?_
    refine lv_if_ne (tgt := 14) hx hb dX3_tonight_9 (by decide) (fun c4 => ?_) (fun c4 => ?_)
    · have h := h.1 c4
      refine lv_iconst (v := (-1)) hx hb dX3_tonight_14 (by decide) ?_
      refine lv_istore_n (lv' := [(2, .int (-1)), (0, .ref (mad g 62)), (1, .int a1)]) hx hb dX3_tonight_15 rfl hl (by decide) rfl (fun ls hl => ?_)
      refine lv_iconst (v := 0) hx hb dX3_tonight_16 (by decide) ?_
      refine lv_istore_n (lv' := [(3, .int 0), (2, .int (-1)), (0, .ref (mad g 62)), (1, .int a1)]) hx hb dX3_tonight_17 rfl hl (by decide) rfl (fun ls hl => ?_)
      refine lv_aload_n hx hb dX3_tonight_18 rfl (lv_at hl 2 rfl) ?_
      refine lv_iload_n hx hb dX3_tonight_19 rfl (lv_at hl 3 rfl) ?_
      refine gw_callVi (As := [.int a1]) (rest := []) F hS (tM_areWhole l g hO s1 a1 _ h) (cwV 1 hts (lw_V q1890 q1892 qs73 q90 q1893) rfl rfl rfl (by decide +kernel) ⟨Nat.le_of_ble_eq_true rfl, Nat.le_of_ble_eq_true rfl⟩) (m_rec F hO hS) rfl hl.1 rfl (Nat.le_of_ble_eq_true rfl) dX3_tonight_20 ⟨Nat.le_refl 0, Nat.le_refl 0⟩ (fun r6 s5 H locs h hS => ?_)
      obtain ⟨zr6, h⟩ := h
      refine lv_if_eq (tgt := 40) hx hb dX3_tonight_23 (by decide) (fun c7 => ?_) (fun c7 => ?_)
      · have h := h.1 c7
        refine lv_iconst (v := 0) hx hb dX3_tonight_40 (by decide) ?_
        refine lv_istore (lv' := [(4, .int 0), (3, .int 0), (2, .int (-1)), (0, .ref (mad g 62)), (1, .int a1)]) hx hb dX3_tonight_41 hl (by decide) rfl (fun ls hl => ?_)
        refine lv_iconst (v := 0) hx hb dX3_tonight_43 (by decide) ?_
        refine lv_istore (lv' := [(5, .int 0), (4, .int 0), (3, .int 0), (2, .int (-1)), (0, .ref (mad g 62)), (1, .int a1)]) hx hb dX3_tonight_44 hl (by decide) rfl (fun ls hl => ?_)
        obtain ⟨n65, h⟩ := h
        exact (kM_tonight_L46 F hO n65) s5 a1 (-1) 0 0 0 H locs ls hS (lv_sub hl [4, 5, 3, 2, 1, 0] rfl) h
      · have h := h.2 c7
        refine lv_aload_n hx hb dX3_tonight_26 rfl (lv_at hl 2 rfl) ?_
        refine m_geti F hO hS 0 (by decide) rfl q1397 dX3_tonight_27 ?_
        refine gw_callSi (As := [.int (s5 0 0)]) (rest := []) F hS (tM_isDark l g hO s5 (s5 0 0) _ h) (va_cwS 1 hts (lw_S q1894 q1895 q90 q1896) rfl rfl rfl (by decide +kernel) ⟨Nat.le_of_ble_eq_true rfl, Nat.le_of_ble_eq_true rfl⟩) rfl hl.1 rfl (Nat.le_of_ble_eq_true rfl) dX3_tonight_30 ⟨Nat.le_refl 0, Nat.le_refl 0⟩ (fun r67 s66 H locs h hS => ?_)
        obtain ⟨zr67, h⟩ := h
        refine gcut (P := ∀ (v69 : Int32) (H : Heap) (locs : List Loc) (ls : Array Slot), v69 = (if r67 = 0 then 0 else 1) → gSt (MWd g) (MA g) s s66 H locs → lv_has ls 7 [(0, .ref (mad g 62)), (1, .int a1), (2, .int (-1)), (3, .int 0)] → W p l e rM_tonight s m args below meth c H locs 0 0 (MQ below (va_Qi post (gB (MWd g)) (MA g)) args s 0 0 (MA g)) (F0 m 41 ls [.int v69])) (fun v69 H locs ls ev69 hS hl => ?_) (fun J70 => ?_)
        · have h := h v69 ev69
          refine lv_istore (lv' := [(4, .int v69), (0, .ref (mad g 62)), (1, .int a1), (2, .int (-1)), (3, .int 0)]) hx hb dX3_tonight_41 hl (by decide) rfl (fun ls hl => ?_)
          refine lv_iconst (v := 0) hx hb dX3_tonight_43 (by decide) ?_
          refine lv_istore (lv' := [(5, .int 0), (4, .int v69), (0, .ref (mad g 62)), (1, .int a1), (2, .int (-1)), (3, .int 0)]) hx hb dX3_tonight_44 hl (by decide) rfl (fun ls hl => ?_)
          obtain ⟨n71, h⟩ := h
          exact (kM_tonight_L46 F hO n71) s66 a1 (-1) 0 v69 0 H locs ls hS (lv_sub hl [2, 3, 4, 5, 1, 0] rfl) h
        · refine lv_if_eq (tgt := 40) hx hb dX3_tonight_33 (by decide) (fun c68 => ?_) (fun c68 => ?_)
          · refine lv_iconst (v := 0) hx hb dX3_tonight_40 (by decide) ?_
            exact J70 _ H locs ls (by first | with_reducible rfl | ((try rw [if_pos c68]); done)) hS (lv_sub hl [2, 3, 1, 0] rfl)
          · refine lv_iconst (v := 1) hx hb dX3_tonight_36 (by decide) ?_
            refine lv_goto (tgt := 41) hx hb dX3_tonight_37 (by decide) ?_
            exact J70 _ H locs ls (by first | with_reducible rfl | ((try rw [if_neg c68]); done)) hS (lv_sub hl [2, 3, 1, 0] rfl)
    · have h := h.2 c4
      refine lv_iconst (v := (-1)) hx hb dX3_tonight_12 (by decide) ?_
      exact gw_iret F hS h dX3_tonight_13
set_option maxHeartbeats 4000000 in
set_option maxRecDepth 100000 in
theorem tM_tonight (l : Launch) (g : MG) (hO : MOK g) (σ : MS) (a1 : Int32) (post : Int32 → MS → Prop) (h : wM_tonight post σ a1) : Met l yX3_tonight (ws_ yX3_tonight cX3_tonight 7 (some .int)) rM_tonight (va_Pc [.ref (mad g 62), .int a1] (gPre (MWd g) (mD g) (mcl g) (mty g) σ)) (va_Qi post (gB (MWd g)) (MA g)) 0 0 (MA g) := by
  refine Met.ofW (cc := cX3_tonight) (maxL := 7) (ret := (some .int)) (by decide) rfl ?_
  intro p e s m args below meth c s₁ B hml hv
  obtain ⟨rfl, hW, hK⟩ := hv
  have hts := atoms_spec (ws := (ws_ yX3_tonight cX3_tonight 7 (some .int))) B.pre
  have hts : ∀ w ∈ lw_all, w.before _ s = true := fun w h => hts w (List.mem_cons_of_mem _ h)
  have hl := lv_entry ([.ref (mad g 62), .int a1]) (n := 7) (Nat.le_of_ble_eq_true rfl)
  rw [lg_entry_eq]
  generalize (lg_sl ([.ref (mad g 62), .int a1]) ++ List.replicate (7 - (lg_sl ([.ref (mad g 62), .int a1])).length) Slot.unset).toArray = ls at hl ⊢
  exact kM_tonight ⟨⟨B.exec, B.bytes, hml, findClass_of_methodNamed B.named, hts⟩, hK, B.returns, B.notSynchronized⟩ hO σ a1 s.heap [] ls ⟨hW, va_S.rf⟩ hl h
