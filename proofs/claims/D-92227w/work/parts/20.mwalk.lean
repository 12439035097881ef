def wM_in (post : Int32 → MS → Prop) (σ : MS) (a0 : Int64) (a2 : Int64) (a4 : Int64) : Prop := (∀ v3 : Int32, v3 = (if (lg_cmp a0 a2) < 0 then 0 else if 0 < (lg_cmp a0 a4) then 0 else 1) → post v3 σ)
abbrev rM_in : Room := { frames := 0, cells := 0, slots := 0, locals := 0 }
set_option maxHeartbeats 4000000 in
set_option maxRecDepth 100000 in
theorem kM_in {p : Program} {l : Launch} {e : Env} {s : State} {m : MethodId} {args : Array Value} {below : List Frame} {meth : Method} {c : Code} {g : MG} {post : Int32 → MS → Prop} (F : gFx p s m c meth args cX3_in 6 RX3 (some .boolean) (mD g) (mcl g) (mty g)) (hO : MOK g) (σ : MS) (a0 : Int64) (a2 : Int64) (a4 : Int64) (H : Heap) (locs : List Loc) (ls : Array Slot) (hS : gSt (MWd g) (MA g) s σ H locs) (hl : lv_has ls 6 [(0, .long a0), (2, .long a2), (4, .long a4)]) (h : wM_in post σ a0 a2 a4) : W p l e rM_in s m args below meth c H locs 0 0 (MQ below (va_Qi (zpost post) (gB (MWd g)) (MA g)) args s 0 0 (MA g)) (F0 m 0 ls []) := by
  have hx := F.hx
  have hb := F.hb
  have hts := F.1.2.2.2.2
  have hown := F.1.2.2.2.1
  rw [wM_in] at h
  refine lv_lload_n hx hb dX3_in_0 rfl (lv_at hl 0 rfl) ?_
  refine lv_lload_n hx hb dX3_in_1 rfl (lv_at hl 1 rfl) ?_
  refine W.lcmp hx hb dX3_in_2 ?_
  refine gcut (P := ∀ (v3 : Int32) (H : Heap) (locs : List Loc) (ls : Array Slot), v3 = (if (lg_cmp a0 a2) < 0 then 0 else if 0 < (lg_cmp a0 a4) then 0 else 1) → gSt (MWd g) (MA g) s σ H locs → lv_has ls 6 [] → W p l e rM_in s m args below meth c H locs 0 0 (MQ below (va_Qi (zpost post) (gB (MWd g)) (MA g)) args s 0 0 (MA g)) (F0 m 18 ls [.int v3])) (fun v3 H locs ls ev3 hS hl => ?_) (fun J4 => ?_)
  · have h := h v3 ev3
    exact gw_zret F hS (by rw [ev3]; exact (bz_ite bz0 (bz_ite bz0 bz1))) h dX3_in_18
  · refine lv_if_lt (tgt := 17) hx hb dX3_in_3 (by decide) (fun c1 => ?_) (fun c1 => ?_)
    · refine lv_iconst (v := 0) hx hb dX3_in_17 (by decide) ?_
      exact J4 _ H locs ls (by first | with_reducible rfl | ((try rw [if_pos c1]); done)) hS (lv_sub hl [] rfl)
    · refine lv_lload_n hx hb dX3_in_6 rfl (lv_at hl 0 rfl) ?_
      refine lv_lload hx hb dX3_in_7 (lv_at hl 2 rfl) ?_
      refine W.lcmp hx hb dX3_in_9 ?_
      refine lv_if_gt (tgt := 17) hx hb dX3_in_10 (by decide) (fun c2 => ?_) (fun c2 => ?_)
      · refine lv_iconst (v := 0) hx hb dX3_in_17 (by decide) ?_
        exact J4 _ H locs ls (by first | with_reducible rfl | ((try rw [if_neg c1]); (try rw [if_pos c2]); done)) hS (lv_sub hl [] rfl)
      · refine lv_iconst (v := 1) hx hb dX3_in_13 (by decide) ?_
        refine lv_goto (tgt := 18) hx hb dX3_in_14 (by decide) ?_
        exact J4 _ H locs ls (by first | with_reducible rfl | ((try rw [if_neg c1]); (try rw [if_neg c2]); done)) hS (lv_sub hl [] rfl)
set_option maxHeartbeats 4000000 in
set_option maxRecDepth 100000 in
theorem tM_in (l : Launch) (g : MG) (hO : MOK g) (σ : MS) (a0 : Int64) (a2 : Int64) (a4 : Int64) (post : Int32 → MS → Prop) (h : wM_in post σ a0 a2 a4) : Met l yX3_in (ws_ yX3_in cX3_in 6 (some .boolean)) rM_in (va_Pc [.long a0, .long a2, .long a4] (gPre (MWd g) (mD g) (mcl g) (mty g) σ)) (va_Qi (zpost post) (gB (MWd g)) (MA g)) 0 0 (MA g) := by
  refine Met.ofW (cc := cX3_in) (maxL := 6) (ret := (some .boolean)) (by decide) rfl ?_
  intro p e s m args below meth c s₁ B hml hv
  obtain ⟨rfl, hW, hK⟩ := hv
  have hts := atoms_spec (ws := (ws_ yX3_in cX3_in 6 (some .boolean))) B.pre
  have hts : ∀ w ∈ lw_all, w.before _ s = true := fun w h => hts w (List.mem_cons_of_mem _ h)
  have hl := lv_entry ([.long a0, .long a2, .long a4]) (n := 6) (Nat.le_of_ble_eq_true rfl)
  rw [lg_entry_eq]
  generalize (lg_sl ([.long a0, .long a2, .long a4]) ++ List.replicate (6 - (lg_sl ([.long a0, .long a2, .long a4])).length) Slot.unset).toArray = ls at hl ⊢
  exact kM_in ⟨⟨B.exec, B.bytes, hml, findClass_of_methodNamed B.named, hts⟩, hK, B.returns, B.notSynchronized⟩ hO σ a0 a2 a4 s.heap [] ls ⟨hW, va_S.rf⟩ hl h
def wM_isDark (post : Int32 → MS → Prop) (σ : MS) (a0 : Int32) : Prop := (∀ v3 : Int32, v3 = (if 20 ≤ (a0 - a0 / 24 * 24) then 1 else if 5 < (a0 - a0 / 24 * 24) then 0 else 1) → post v3 σ)
abbrev rM_isDark : Room := { frames := 0, cells := 0, slots := 0, locals := 0 }
set_option maxHeartbeats 4000000 in
set_option maxRecDepth 100000 in
theorem kM_isDark {p : Program} {l : Launch} {e : Env} {s : State} {m : MethodId} {args : Array Value} {below : List Frame} {meth : Method} {c : Code} {g : MG} {post : Int32 → MS → Prop} (F : gFx p s m c meth args cX3_isDark 1 RX3 (some .boolean) (mD g) (mcl g) (mty g)) (hO : MOK g) (σ : MS) (a0 : Int32) (H : Heap) (locs : List Loc) (ls : Array Slot) (hS : gSt (MWd g) (MA g) s σ H locs) (hl : lv_has ls 1 [(0, .int a0)]) (h : wM_isDark post σ a0) : W p l e rM_isDark s m args below meth c H locs 0 0 (MQ below (va_Qi (zpost post) (gB (MWd g)) (MA g)) args s 0 0 (MA g)) (F0 m 0 ls []) := by
  have hx := F.hx
  have hb := F.hb
  have hts := F.1.2.2.2.2
  have hown := F.1.2.2.2.1
  rw [wM_isDark] at h
  refine lv_iload_n hx hb dX3_isDark_0 rfl (lv_at hl 0 rfl) ?_
  refine lv_bipush (v := 24) hx hb dX3_isDark_1 (by decide) ?_
  refine lv_irem hx hb dX3_isDark_3 (by decide) ?_
  refine lv_bipush (v := 20) hx hb dX3_isDark_4 (by decide) ?_
  refine gcut (P := ∀ (v3 : Int32) (H : Heap) (locs : List Loc) (ls : Array Slot), v3 = (if 20 ≤ (a0 - a0 / 24 * 24) then 1 else if 5 < (a0 - a0 / 24 * 24) then 0 else 1) → gSt (MWd g) (MA g) s σ H locs → lv_has ls 1 [] → W p l e rM_isDark s m args below meth c H locs 0 0 (MQ below (va_Qi (zpost post) (gB (MWd g)) (MA g)) args s 0 0 (MA g)) (F0 m 22 ls [.int v3])) (fun v3 H locs ls ev3 hS hl => ?_) (fun J4 => ?_)
  · have h := h v3 ev3
    exact gw_zret F hS (by rw [ev3]; exact (bz_ite bz1 (bz_ite bz0 bz1))) h dX3_isDark_22
  · refine lv_icmp_ge (tgt := 17) hx hb dX3_isDark_6 (by decide) (fun c1 => ?_) (fun c1 => ?_)
    · refine lv_iconst (v := 1) hx hb dX3_isDark_17 (by decide) ?_
      refine lv_goto (tgt := 22) hx hb dX3_isDark_18 (by decide) ?_
      exact J4 _ H locs ls (by first | with_reducible rfl | ((try rw [if_pos c1]); done)) hS (lv_sub hl [] rfl)
    · refine lv_iload_n hx hb dX3_isDark_9 rfl (lv_at hl 0 rfl) ?_
      refine lv_bipush (v := 24) hx hb dX3_isDark_10 (by decide) ?_
      refine lv_irem hx hb dX3_isDark_12 (by decide) ?_
      refine lv_iconst (v := 5) hx hb dX3_isDark_13 (by decide) ?_
      refine lv_icmp_gt (tgt := 21) hx hb dX3_isDark_14 (by decide) (fun c2 => ?_) (fun c2 => ?_)
      · refine lv_iconst (v := 0) hx hb dX3_isDark_21 (by decide) ?_
        exact J4 _ H locs ls (by first | with_reducible rfl | ((try rw [if_neg c1]); (try rw [if_pos c2]); done)) hS (lv_sub hl [] rfl)
      · refine lv_iconst (v := 1) hx hb dX3_isDark_17 (by decide) ?_
        refine lv_goto (tgt := 22) hx hb dX3_isDark_18 (by decide) ?_
        exact J4 _ H locs ls (by first | with_reducible rfl | ((try rw [if_neg c1]); (try rw [if_neg c2]); done)) hS (lv_sub hl [] rfl)
set_option maxHeartbeats 4000000 in
set_option maxRecDepth 100000 in
theorem tM_isDark (l : Launch) (g : MG) (hO : MOK g) (σ : MS) (a0 : Int32) (post : Int32 → MS → Prop) (h : wM_isDark post σ a0) : Met l yX3_isDark (ws_ yX3_isDark cX3_isDark 1 (some .boolean)) rM_isDark (va_Pc [.int a0] (gPre (MWd g) (mD g) (mcl g) (mty g) σ)) (va_Qi (zpost post) (gB (MWd g)) (MA g)) 0 0 (MA g) := by
  refine Met.ofW (cc := cX3_isDark) (maxL := 1) (ret := (some .boolean)) (by decide) rfl ?_
  intro p e s m args below meth c s₁ B hml hv
  obtain ⟨rfl, hW, hK⟩ := hv
  have hts := atoms_spec (ws := (ws_ yX3_isDark cX3_isDark 1 (some .boolean))) B.pre
  have hts : ∀ w ∈ lw_all, w.before _ s = true := fun w h => hts w (List.mem_cons_of_mem _ h)
  have hl := lv_entry ([.int a0]) (n := 1) (Nat.le_of_ble_eq_true rfl)
  rw [lg_entry_eq]
  generalize (lg_sl ([.int a0]) ++ List.replicate (1 - (lg_sl ([.int a0])).length) Slot.unset).toArray = ls at hl ⊢
  exact kM_isDark ⟨⟨B.exec, B.bytes, hml, findClass_of_methodNamed B.named, hts⟩, hK, B.returns, B.notSynchronized⟩ hO σ a0 s.heap [] ls ⟨hW, va_S.rf⟩ hl h
def wM_weekOf (post : Int32 → MS → Prop) (σ : MS) (a0 : Int32) : Prop := post (((a0 / 24) / 7) - ((a0 / 24) / 7) / 50 * 50) σ
abbrev rM_weekOf : Room := { frames := 0, cells := 0, slots := 0, locals := 0 }
set_option maxHeartbeats 4000000 in
set_option maxRecDepth 100000 in
theorem kM_weekOf {p : Program} {l : Launch} {e : Env} {s : State} {m : MethodId} {args : Array Value} {below : List Frame} {meth : Method} {c : Code} {g : MG} {post : Int32 → MS → Prop} (F : gFx p s m c meth args cX3_weekOf 1 RX3 (some .int) (mD g) (mcl g) (mty g)) (hO : MOK g) (σ : MS) (a0 : Int32) (H : Heap) (locs : List Loc) (ls : Array Slot) (hS : gSt (MWd g) (MA g) s σ H locs) (hl : lv_has ls 1 [(0, .int a0)]) (h : wM_weekOf post σ a0) : W p l e rM_weekOf s m args below meth c H locs 0 0 (MQ below (va_Qi post (gB (MWd g)) (MA g)) args s 0 0 (MA g)) (F0 m 0 ls []) := by
  have hx := F.hx
  have hb := F.hb
  have hts := F.1.2.2.2.2
  have hown := F.1.2.2.2.1
  rw [wM_weekOf] at h
  refine lv_iload_n hx hb dX3_weekOf_0 rfl (lv_at hl 0 rfl) ?_
  refine lv_bipush (v := 24) hx hb dX3_weekOf_1 (by decide) ?_
  refine lv_idiv hx hb dX3_weekOf_3 (by decide) ?_
  refine lv_bipush (v := 7) hx hb dX3_weekOf_4 (by decide) ?_
  refine lv_idiv hx hb dX3_weekOf_6 (by decide) ?_
  refine lv_bipush (v := 50) hx hb dX3_weekOf_7 (by decide) ?_
  refine lv_irem hx hb dX3_weekOf_9 (by decide) ?_
  exact gw_iret F hS h dX3_weekOf_10
set_option maxHeartbeats 4000000 in
set_option maxRecDepth 100000 in
theorem tM_weekOf (l : Launch) (g : MG) (hO : MOK g) (σ : MS) (a0 : Int32) (post : Int32 → MS → Prop) (h : wM_weekOf post σ a0) : Met l yX3_weekOf (ws_ yX3_weekOf cX3_weekOf 1 (some .int)) rM_weekOf (va_Pc [.int a0] (gPre (MWd g) (mD g) (mcl g) (mty g) σ)) (va_Qi post (gB (MWd g)) (MA g)) 0 0 (MA g) := by
  refine Met.ofW (cc := cX3_weekOf) (maxL := 1) (ret := (some .int)) (by decide) rfl ?_
  intro p e s m args below meth c s₁ B hml hv
  obtain ⟨rfl, hW, hK⟩ := hv
  have hts := atoms_spec (ws := (ws_ yX3_weekOf cX3_weekOf 1 (some .int))) B.pre
  have hts : ∀ w ∈ lw_all, w.before _ s = true := fun w h => hts w (List.mem_cons_of_mem _ h)
  have hl := lv_entry ([.int a0]) (n := 1) (Nat.le_of_ble_eq_true rfl)
  rw [lg_entry_eq]
  generalize (lg_sl ([.int a0]) ++ List.replicate (1 - (lg_sl ([.int a0])).length) Slot.unset).toArray = ls at hl ⊢
  exact kM_weekOf ⟨⟨B.exec, B.bytes, hml, findClass_of_methodNamed B.named, hts⟩, hK, B.returns, B.notSynchronized⟩ hO σ a0 s.heap [] ls ⟨hW, va_S.rf⟩ hl h
def wM_makes_L104 (post : Int32 → MS → Prop) : Nat → MS → Int32 → Prop
  | 0, _, _ => False
  | n + 1, σ, x20 => (50 ≤ x20 → (∀ s22 : MS, s22 = up2 σ 1 0 ((σ 1 0) + 1) → post ((s22 1 0) - 1) s22)) ∧ (¬ (50 ≤ x20) → (vp_in (((50 : Int32) * (σ 1 0)) + x20) 800 ∧ ∀ s23 : MS, s23 = up2 σ 10 (((50 : Int32) * (σ 1 0)) + x20).toNatClampNeg 1 → ∀ x25 : Int32, x25 = x20 + 1 → wM_makes_L104 post n s23 x25))
def wM_makes (post : Int32 → MS → Prop) (σ : MS) (a1 : Int32) (a2 : Int32) (a3 : Int32) (a4 : Int32) (a5 : Int32) (a6 : Int32) : Prop := wM_in (fun r2 s1 => (r2 = 0 → post (-1) s1) ∧ (¬ (r2 = 0) → wM_in (fun r5 s4 => (¬ (r5 = 0) → (¬ ((s4 1 0) = 16) → (vp_in (s4 1 0) 16 ∧ ∀ s8 : MS, s8 = up2 s4 2 (s4 1 0).toNatClampNeg a1 → vp_in (s8 1 0) 16 ∧ ∀ s10 : MS, s10 = up2 s8 3 (s8 1 0).toNatClampNeg a2 → vp_in (s10 1 0) 16 ∧ ∀ s12 : MS, s12 = up2 s10 4 (s10 1 0).toNatClampNeg a3 → vp_in (s12 1 0) 16 ∧ ∀ s14 : MS, s14 = up2 s12 5 (s12 1 0).toNatClampNeg a4 → vp_in (s14 1 0) 16 ∧ ∀ s16 : MS, s16 = up2 s14 6 (s14 1 0).toNatClampNeg a5 → vp_in (s16 1 0) 16 ∧ ∀ s18 : MS, s18 = up2 s16 7 (s16 1 0).toNatClampNeg a6 → ∃ n26, wM_makes_L104 post n26 s18 0)) ∧ ((s4 1 0) = 16 → post (-3) s4)) ∧ (r5 = 0 → post (-1) s4)) s1 a3.toInt64 0 9)) σ a2.toInt64 0 3
abbrev rM_makes : Room := { frames := 1, cells := 0, slots := 0, locals := 25 }
set_option maxHeartbeats 4000000 in
set_option maxRecDepth 100000 in
theorem kM_makes_L104 {p : Program} {l : Launch} {e : Env} {s : State} {m : MethodId} {args : Array Value} {below : List Frame} {meth : Method} {c : Code} {g : MG} {post : Int32 → MS → Prop} (F : gFx p s m c meth args cX3_makes 8 RX3 (some .int) (mD g) (mcl g) (mty g)) (hO : MOK g) : ∀ (n : Nat) (σ : MS) (x20 : Int32) (H : Heap) (locs : List Loc) (ls : Array Slot), gSt (MWd g) (MA g) s σ H locs → lv_has ls 8 [(0, .ref (mad g 62)), (7, .int x20)] → wM_makes_L104 post n σ x20 → W p l e rM_makes s m args below meth c H locs 0 0 (MQ below (va_Qi post (gB (MWd g)) (MA g)) args s 0 0 (MA g)) (F0 m 104 ls []) := by
  have hx := F.hx
  have hb := F.hb
  have hts := F.1.2.2.2.2
  have hown := F.1.2.2.2.1
  intro n
  induction n with
  | zero =>
    intro σ x20 H locs ls hS hl h
    exact False.elim h
  | succ n ih =>
    intro σ x20 H locs ls hS hl h
    rw [wM_makes_L104] at h
    refine lv_iload hx hb dX3_makes_104 (lv_at hl 1 rfl) ?_
    refine lv_bipush (v := 50) hx hb dX3_makes_106 (by decide) ?_
    refine lv_icmp_ge (tgt := 133) hx hb dX3_makes_108 (by decide) (fun c21 => ?_) (fun c21 => ?_)
    · have h := h.1 c21
      refine lv_aload_n hx hb dX3_makes_133 rfl (lv_at hl 0 rfl) ?_
      refine lv_dup hx hb dX3_makes_134 rfl ?_
      refine m_geti F hO hS 1 (by decide) rfl q1398 dX3_makes_135 ?_
      refine lv_iconst (v := 1) hx hb dX3_makes_138 (by decide) ?_
      refine lv_iadd hx hb dX3_makes_139 ?_
      refine m_puti F hO hS 1 (by decide) rfl q1398 rfl (by decide +kernel) dX3_makes_140 (fun s22 es22 H locs hS => ?_)
      have h := h s22 es22
      refine lv_aload_n hx hb dX3_makes_143 rfl (lv_at hl 0 rfl) ?_
      refine m_geti F hO hS 1 (by decide) rfl q1398 dX3_makes_144 ?_
      refine lv_iconst (v := 1) hx hb dX3_makes_147 (by decide) ?_
      refine lv_isub hx hb dX3_makes_148 ?_
      exact gw_iret F hS h dX3_makes_149
    · have h := h.2 c21
      refine lv_aload_n hx hb dX3_makes_111 rfl (lv_at hl 0 rfl) ?_
      refine m_geta F hO hS 10 (by decide) rfl q1407 dX3_makes_112 ?_
      refine lv_bipush (v := 50) hx hb dX3_makes_115 (by decide) ?_
      refine lv_aload_n hx hb dX3_makes_117 rfl (lv_at hl 0 rfl) ?_
      refine m_geti F hO hS 1 (by decide) rfl q1398 dX3_makes_118 ?_
      refine lv_imul hx hb dX3_makes_121 ?_
      refine lv_iload hx hb dX3_makes_122 (lv_at hl 1 rfl) ?_
      refine lv_iadd hx hb dX3_makes_124 ?_
      refine lv_iconst (v := 1) hx hb dX3_makes_125 (by decide) ?_
      obtain ⟨b24, h⟩ := h
      refine m_zast F hO hS 10 8 rfl rfl b24 bz1 dX3_makes_126 (fun s23 es23 H locs hS => ?_)
      have h := h s23 es23
      obtain ⟨x25, ex25⟩ : ∃ y : Int32, y = x20 + 1 := ⟨_, rfl⟩
      have h := h x25 ex25
      refine lv_iinc (v := x25) (lv' := [(7, .int x25), (0, .ref (mad g 62))]) hx hb dX3_makes_127 hl (k := 1) rfl (by rw [ex25]; rfl) (by decide) rfl (fun ls hl => ?_)
      refine lv_goto (tgt := 104) hx hb dX3_makes_130 (by decide) ?_
      exact ih s23 x25 H locs ls hS (lv_sub hl [1, 0] rfl) h
set_option maxHeartbeats 4000000 in
set_option maxRecDepth 100000 in
theorem kM_makes {p : Program} {l : Launch} {e : Env} {s : State} {m : MethodId} {args : Array Value} {below : List Frame} {meth : Method} {c : Code} {g : MG} {post : Int32 → MS → Prop} (F : gFx p s m c meth args cX3_makes 8 RX3 (some .int) (mD g) (mcl g) (mty g)) (hO : MOK g) (σ : MS) (a1 : Int32) (a2 : Int32) (a3 : Int32) (a4 : Int32) (a5 : Int32) (a6 : Int32) (H : Heap) (locs : List Loc) (ls : Array Slot) (hS : gSt (MWd g) (MA g) s σ H locs) (hl : lv_has ls 8 [(0, .ref (mad g 62)), (1, .int a1), (2, .int a2), (3, .int a3), (4, .int a4), (5, .int a5), (6, .int a6)]) (h : wM_makes post σ a1 a2 a3 a4 a5 a6) : W p l e rM_makes s m args below meth c H locs 0 0 (MQ below (va_Qi post (gB (MWd g)) (MA g)) args s 0 0 (MA g)) (F0 m 0 ls []) := by
  have hx := F.hx
  have hb := F.hb
  have hts := F.1.2.2.2.2
  have hown := F.1.2.2.2.1
  rw [wM_makes] at h
  refine lv_iload_n hx hb dX3_makes_0 rfl (lv_at hl 2 rfl) ?_
  refine lv_i2l hx hb dX3_makes_1 rfl ?_
  refine lv_lconst (v := 0) hx hb dX3_makes_2 (by decide) ?_
  refine lv_ldc2 (v := 3) hx hb hown (hts _ q1592) dX3_makes_3 ?_
  refine gw_callSi (As := [.long a2.toInt64, .long 0, .long 3]) (rest := []) F hS (tM_in l g hO σ a2.toInt64 0 3 _ h) (va_cwS 3 hts (lw_S q1593 q1594 q90 q1595) rfl rfl rfl (by decide +kernel) ⟨Nat.le_of_ble_eq_true rfl, Nat.le_of_ble_eq_true rfl⟩) rfl hl.1 rfl (Nat.le_of_ble_eq_true rfl) dX3_makes_6 ⟨Nat.le_refl 0, Nat.le_refl 0⟩ (fun r2 s1 H locs h hS => ?_)
  obtain ⟨zr2, h⟩ := h
  refine lv_if_eq (tgt := 24) hx hb dX3_makes_9 (by decide) (fun c3 => ?_) (fun c3 => ?_)
  · have h := h.1 c3
    refine lv_iconst (v := (-1)) hx hb dX3_makes_24 (by decide) ?_
    exact gw_iret F hS h dX3_makes_25
  · have h := h.2 c3
    refine lv_iload_n hx hb dX3_makes_12 rfl (lv_at hl 3 rfl) ?_
    refine lv_i2l hx hb dX3_makes_13 rfl ?_
    refine lv_lconst (v := 0) hx hb dX3_makes_14 (by decide) ?_
    refine lv_ldc2 (v := 9) hx hb hown (hts _ q1596) dX3_makes_15 ?_
    refine gw_callSi (As := [.long a3.toInt64, .long 0, .long 9]) (rest := []) F hS (tM_in l g hO s1 a3.toInt64 0 9 _ h) (va_cwS 3 hts (lw_S q1593 q1594 q90 q1595) rfl rfl rfl (by decide +kernel) ⟨Nat.le_of_ble_eq_true rfl, Nat.le_of_ble_eq_true rfl⟩) rfl hl.1 rfl (Nat.le_of_ble_eq_true rfl) dX3_makes_18 ⟨Nat.le_refl 0, Nat.le_refl 0⟩ (fun r5 s4 H locs h hS => ?_)
    obtain ⟨zr5, h⟩ := h
    refine lv_if_ne (tgt := 26) hx hb dX3_makes_21 (by decide) (fun c6 => ?_) (fun c6 => ?_)
    · have h := h.1 c6
      refine lv_aload_n hx hb dX3_makes_26 rfl (lv_at hl 0 rfl) ?_
      refine m_geti F hO hS 1 (by decide) rfl q1398 dX3_makes_27 ?_
      refine lv_bipush (v := 16) hx hb dX3_makes_30 (by decide) ?_
      refine lv_icmp_ne (tgt := 38) hx hb dX3_makes_32 (by decide) (fun c7 => ?_) (fun c7 => ?_)
      · have h := h.1 c7
        refine lv_aload_n hx hb dX3_makes_38 rfl (lv_at hl 0 rfl) ?_
        refine m_geta F hO hS 2 (by decide) rfl q1399 dX3_makes_39 ?_
        refine lv_aload_n hx hb dX3_makes_42 rfl (lv_at hl 0 rfl) ?_
        refine m_geti F hO hS 1 (by decide) rfl q1398 dX3_makes_43 ?_
        refine lv_iload_n hx hb dX3_makes_46 rfl (lv_at hl 1 rfl) ?_
        obtain ⟨b9, h⟩ := h
        refine m_iast F hO hS 2 0 rfl rfl b9 dX3_makes_47 (fun s8 es8 H locs hS => ?_)
        have h := h s8 es8
        refine lv_aload_n hx hb dX3_makes_48 rfl (lv_at hl 0 rfl) ?_
        refine m_geta F hO hS 3 (by decide) rfl q1400 dX3_makes_49 ?_
        refine lv_aload_n hx hb dX3_makes_52 rfl (lv_at hl 0 rfl) ?_
        refine m_geti F hO hS 1 (by decide) rfl q1398 dX3_makes_53 ?_
        refine lv_iload_n hx hb dX3_makes_56 rfl (lv_at hl 2 rfl) ?_
        obtain ⟨b11, h⟩ := h
        refine m_iast F hO hS 3 1 rfl rfl b11 dX3_makes_57 (fun s10 es10 H locs hS => ?_)
        have h := h s10 es10
        refine lv_aload_n hx hb dX3_makes_58 rfl (lv_at hl 0 rfl) ?_
        refine m_geta F hO hS 4 (by decide) rfl q1401 dX3_makes_59 ?_
        refine lv_aload_n hx hb dX3_makes_62 rfl (lv_at hl 0 rfl) ?_
        refine m_geti F hO hS 1 (by decide) rfl q1398 dX3_makes_63 ?_
        refine lv_iload_n hx hb dX3_makes_66 rfl (lv_at hl 3 rfl) ?_
        obtain ⟨b13, h⟩ := h
        refine m_iast F hO hS 4 2 rfl rfl b13 dX3_makes_67 (fun s12 es12 H locs hS => ?_)
        have h := h s12 es12
        refine lv_aload_n hx hb dX3_makes_68 rfl (lv_at hl 0 rfl) ?_
        refine m_geta F hO hS 5 (by decide) rfl q1402 dX3_makes_69 ?_
        refine lv_aload_n hx hb dX3_makes_72 rfl (lv_at hl 0 rfl) ?_
        refine m_geti F hO hS 1 (by decide) rfl q1398 dX3_makes_73 ?_
        refine lv_iload hx hb dX3_makes_76 (lv_at hl 4 rfl) ?_
        obtain ⟨b15, h⟩ := h
        refine m_iast F hO hS 5 3 rfl rfl b15 dX3_makes_78 (fun s14 es14 H locs hS => ?_)
        have h := h s14 es14
        refine lv_aload_n hx hb dX3_makes_79 rfl (lv_at hl 0 rfl) ?_
        refine m_geta F hO hS 6 (by decide) rfl q1403 dX3_makes_80 ?_
        refine lv_aload_n hx hb dX3_makes_83 rfl (lv_at hl 0 rfl) ?_
        refine m_geti F hO hS 1 (by decide) rfl q1398 dX3_makes_84 ?_
        refine lv_iload hx hb dX3_makes_87 (lv_at hl 5 rfl) ?_
        obtain ⟨b17, h⟩ := h
        refine m_iast F hO hS 6 4 rfl rfl b17 dX3_makes_89 (fun s16 es16 H locs hS => ?_)
        have h := h s16 es16
        refine lv_aload_n hx hb dX3_makes_90 rfl (lv_at hl 0 rfl) ?_
        refine m_geta F hO hS 7 (by decide) rfl q1404 dX3_makes_91 ?_
        refine lv_aload_n hx hb dX3_makes_94 rfl (lv_at hl 0 rfl) ?_
        refine m_geti F hO hS 1 (by decide) rfl q1398 dX3_makes_95 ?_
        refine lv_iload hx hb dX3_makes_98 (lv_at hl 6 rfl) ?_
        obtain ⟨b19, h⟩ := h
        refine m_iast F hO hS 7 5 rfl rfl b19 dX3_makes_100 (fun s18 es18 H locs hS => ?_)
        have h := h s18 es18
        refine lv_iconst (v := 0) hx hb dX3_makes_101 (by decide) ?_
        refine lv_istore (lv' := [(7, .int 0), (0, .ref (mad g 62)), (1, .int a1), (2, .int a2), (3, .int a3), (4, .int a4), (5, .int a5), (6, .int a6)]) hx hb dX3_makes_102 hl (by decide) rfl (fun ls hl => ?_)
        obtain ⟨n26, h⟩ := h
        exact (kM_makes_L104 F hO n26) s18 0 H locs ls hS (lv_sub hl [1, 0] rfl) h
      · have h := h.2 c7
        refine lv_bipush (v := (-3)) hx hb dX3_makes_35 (by decide) ?_
        exact gw_iret F hS h dX3_makes_37
    · have h := h.2 c6
      refine lv_iconst (v := (-1)) hx hb dX3_makes_24 (by decide) ?_
      exact gw_iret F hS h dX3_makes_25
set_option maxHeartbeats 4000000 in
set_option maxRecDepth 100000 in
theorem tM_makes (l : Launch) (g : MG) (hO : MOK g) (σ : MS) (a1 : Int32) (a2 : Int32) (a3 : Int32) (a4 : Int32) (a5 : Int32) (a6 : Int32) (post : Int32 → MS → Prop) (h : wM_makes post σ a1 a2 a3 a4 a5 a6) : Met l yX3_makes (ws_ yX3_makes cX3_makes 8 (some .int)) rM_makes (va_Pc [.ref (mad g 62), .int a1, .int a2, .int a3, .int a4, .int a5, .int a6] (gPre (MWd g) (mD g) (mcl g) (mty g) σ)) (va_Qi post (gB (MWd g)) (MA g)) 0 0 (MA g) := by
  refine Met.ofW (cc := cX3_makes) (maxL := 8) (ret := (some .int)) (by decide) rfl ?_
  intro p e s m args below meth c s₁ B hml hv
  obtain ⟨rfl, hW, hK⟩ := hv
  have hts := atoms_spec (ws := (ws_ yX3_makes cX3_makes 8 (some .int))) B.pre
  have hts : ∀ w ∈ lw_all, w.before _ s = true := fun w h => hts w (List.mem_cons_of_mem _ h)
  have hl := lv_entry ([.ref (mad g 62), .int a1, .int a2, .int a3, .int a4, .int a5, .int a6]) (n := 8) (Nat.le_of_ble_eq_true rfl)
  rw [lg_entry_eq]
  generalize (lg_sl ([.ref (mad g 62), .int a1, .int a2, .int a3, .int a4, .int a5, .int a6]) ++ List.replicate (8 - (lg_sl ([.ref (mad g 62), .int a1, .int a2, .int a3, .int a4, .int a5, .int a6])).length) Slot.unset).toArray = ls at hl ⊢
  exact kM_makes ⟨⟨B.exec, B.bytes, hml, findClass_of_methodNamed B.named, hts⟩, hK, B.returns, B.notSynchronized⟩ hO σ a1 a2 a3 a4 a5 a6 s.heap [] ls ⟨hW, va_S.rf⟩ hl h
def wM_open (post : Int32 → MS → Prop) (σ : MS) (a1 : Int32) : Prop := wM_makes (fun r2 s1 => post r2 s1) σ 0 a1 0 0 0 0
abbrev rM_open : Room := { frames := 2, cells := 0, slots := 0, locals := 52 }
set_option maxHeartbeats 4000000 in
set_option maxRecDepth 100000 in
theorem kM_open {p : Program} {l : Launch} {e : Env} {s : State} {m : MethodId} {args : Array Value} {below : List Frame} {meth : Method} {c : Code} {g : MG} {post : Int32 → MS → Prop} (F : gFx p s m c meth args cX3_open 2 RX3 (some .int) (mD g) (mcl g) (mty g)) (hO : MOK g) (σ : MS) (a1 : Int32) (H : Heap) (locs : List Loc) (ls : Array Slot) (hS : gSt (MWd g) (MA g) s σ H locs) (hl : lv_has ls 2 [(0, .ref (mad g 62)), (1, .int a1)]) (h : wM_open post σ a1) : W p l e rM_open s m args below meth c H locs 0 0 (MQ below (va_Qi post (gB (MWd g)) (MA g)) args s 0 0 (MA g)) (F0 m 0 ls []) := by
  have hx := F.hx
  have hb := F.hb
  have hts := F.1.2.2.2.2
  have hown := F.1.2.2.2.1
  rw [wM_open] at h
  refine lv_aload_n hx hb dX3_open_0 rfl (lv_at hl 0 rfl) ?_
  refine lv_iconst (v := 0) hx hb dX3_open_1 (by decide) ?_
  refine lv_iload_n hx hb dX3_open_2 rfl (lv_at hl 1 rfl) ?_
  refine lv_iconst (v := 0) hx hb dX3_open_3 (by decide) ?_
  refine lv_iconst (v := 0) hx hb dX3_open_4 (by decide) ?_
  refine lv_iconst (v := 0) hx hb dX3_open_5 (by decide) ?_
  refine lv_iconst (v := 0) hx hb dX3_open_6 (by decide) ?_
  refine gw_callVi (As := [.int 0, .int a1, .int 0, .int 0, .int 0, .int 0]) (rest := []) F hS (tM_makes l g hO σ 0 a1 0 0 0 0 _ h) (cwV 6 hts (lw_V q1588 q1590 qs39 q90 q1591) rfl rfl rfl (by decide +kernel) ⟨Nat.le_of_ble_eq_true rfl, Nat.le_of_ble_eq_true rfl⟩) (m_rec F hO hS) rfl hl.1 rfl (Nat.le_of_ble_eq_true rfl) dX3_open_7 ⟨Nat.le_refl 0, Nat.le_refl 0⟩ (fun r2 s1 H locs h hS => ?_)
  exact gw_iret F hS h dX3_open_10
set_option maxHeartbeats 4000000 in
set_option maxRecDepth 100000 in
theorem tM_open (l : Launch) (g : MG) (hO : MOK g) (σ : MS) (a1 : Int32) (post : Int32 → MS → Prop) (h : wM_open post σ a1) : Met l yX3_open (ws_ yX3_open cX3_open 2 (some .int)) rM_open (va_Pc [.ref (mad g 62), .int a1] (gPre (MWd g) (mD g) (mcl g) (mty g) σ)) (va_Qi post (gB (MWd g)) (MA g)) 0 0 (MA g) := by
  refine Met.ofW (cc := cX3_open) (maxL := 2) (ret := (some .int)) (by decide) rfl ?_
  intro p e s m args below meth c s₁ B hml hv
  obtain ⟨rfl, hW, hK⟩ := hv
  have hts := atoms_spec (ws := (ws_ yX3_open cX3_open 2 (some .int))) B.pre
  have hts : ∀ w ∈ lw_all, w.before _ s = true := fun w h => hts w (List.mem_cons_of_mem _ h)
  have hl := lv_entry ([.ref (mad g 62), .int a1]) (n := 2) (Nat.le_of_ble_eq_true rfl)
  rw [lg_entry_eq]
  generalize (lg_sl ([.ref (mad g 62), .int a1]) ++ List.replicate (2 - (lg_sl ([.ref (mad g 62), .int a1])).length) Slot.unset).toArray = ls at hl ⊢
  exact kM_open ⟨⟨B.exec, B.bytes, hml, findClass_of_methodNamed B.named, hts⟩, hK, B.returns, B.notSynchronized⟩ hO σ a1 s.heap [] ls ⟨hW, va_S.rf⟩ hl h
def wM_house (post : Int32 → MS → Prop) (σ : MS) (a1 : Int32) (a2 : Int32) : Prop := wM_makes (fun r2 s1 => post r2 s1) σ 1 a1 a2 0 0 0
abbrev rM_house : Room := { frames := 2, cells := 0, slots := 0, locals := 52 }
set_option maxHeartbeats 4000000 in
set_option maxRecDepth 100000 in
theorem kM_house {p : Program} {l : Launch} {e : Env} {s : State} {m : MethodId} {args : Array Value} {below : List Frame} {meth : Method} {c : Code} {g : MG} {post : Int32 → MS → Prop} (F : gFx p s m c meth args cX3_house 3 RX3 (some .int) (mD g) (mcl g) (mty g)) (hO : MOK g) (σ : MS) (a1 : Int32) (a2 : Int32) (H : Heap) (locs : List Loc) (ls : Array Slot) (hS : gSt (MWd g) (MA g) s σ H locs) (hl : lv_has ls 3 [(0, .ref (mad g 62)), (1, .int a1), (2, .int a2)]) (h : wM_house post σ a1 a2) : W p l e rM_house s m args below meth c H locs 0 0 (MQ below (va_Qi post (gB (MWd g)) (MA g)) args s 0 0 (MA g)) (F0 m 0 ls []) := by
  have hx := F.hx
  have hb := F.hb
  have hts := F.1.2.2.2.2
  have hown := F.1.2.2.2.1
  rw [wM_house] at h
  refine lv_aload_n hx hb dX3_house_0 rfl (lv_at hl 0 rfl) ?_
  refine lv_iconst (v := 1) hx hb dX3_house_1 (by decide) ?_
  refine lv_iload_n hx hb dX3_house_2 rfl (lv_at hl 1 rfl) ?_
  refine lv_iload_n hx hb dX3_house_3 rfl (lv_at hl 2 rfl) ?_
  refine lv_iconst (v := 0) hx hb dX3_house_4 (by decide) ?_
  refine lv_iconst (v := 0) hx hb dX3_house_5 (by decide) ?_
  refine lv_iconst (v := 0) hx hb dX3_house_6 (by decide) ?_
  refine gw_callVi (As := [.int 1, .int a1, .int a2, .int 0, .int 0, .int 0]) (rest := []) F hS (tM_makes l g hO σ 1 a1 a2 0 0 0 _ h) (cwV 6 hts (lw_V q1588 q1590 qs39 q90 q1591) rfl rfl rfl (by decide +kernel) ⟨Nat.le_of_ble_eq_true rfl, Nat.le_of_ble_eq_true rfl⟩) (m_rec F hO hS) rfl hl.1 rfl (Nat.le_of_ble_eq_true rfl) dX3_house_7 ⟨Nat.le_refl 0, Nat.le_refl 0⟩ (fun r2 s1 H locs h hS => ?_)
  exact gw_iret F hS h dX3_house_10
set_option maxHeartbeats 4000000 in
set_option maxRecDepth 100000 in
theorem tM_house (l : Launch) (g : MG) (hO : MOK g) (σ : MS) (a1 : Int32) (a2 : Int32) (post : Int32 → MS → Prop) (h : wM_house post σ a1 a2) : Met l yX3_house (ws_ yX3_house cX3_house 3 (some .int)) rM_house (va_Pc [.ref (mad g 62), .int a1, .int a2] (gPre (MWd g) (mD g) (mcl g) (mty g) σ)) (va_Qi post (gB (MWd g)) (MA g)) 0 0 (MA g) := by
  refine Met.ofW (cc := cX3_house) (maxL := 3) (ret := (some .int)) (by decide) rfl ?_
  intro p e s m args below meth c s₁ B hml hv
  obtain ⟨rfl, hW, hK⟩ := hv
  have hts := atoms_spec (ws := (ws_ yX3_house cX3_house 3 (some .int))) B.pre
  have hts : ∀ w ∈ lw_all, w.before _ s = true := fun w h => hts w (List.mem_cons_of_mem _ h)
  have hl := lv_entry ([.ref (mad g 62), .int a1, .int a2]) (n := 3) (Nat.le_of_ble_eq_true rfl)
  rw [lg_entry_eq]
  generalize (lg_sl ([.ref (mad g 62), .int a1, .int a2]) ++ List.replicate (3 - (lg_sl ([.ref (mad g 62), .int a1, .int a2])).length) Slot.unset).toArray = ls at hl ⊢
  exact kM_house ⟨⟨B.exec, B.bytes, hml, findClass_of_methodNamed B.named, hts⟩, hK, B.returns, B.notSynchronized⟩ hO σ a1 a2 s.heap [] ls ⟨hW, va_S.rf⟩ hl h
def wM_store (post : Int32 → MS → Prop) (σ : MS) (a1 : Int32) (a2 : Int32) (a3 : Int32) (a4 : Int32) : Prop := wM_in (fun r2 s1 => (r2 = 0 → post (-1) s1) ∧ (¬ (r2 = 0) → wM_in (fun r5 s4 => (r5 = 0 → post (-1) s4) ∧ (¬ (r5 = 0) → wM_makes (fun r8 s7 => post r8 s7) s4 2 a1 a2 a3 a4 0)) s1 a4.toInt64 1 24)) σ a3.toInt64 1 9
abbrev rM_store : Room := { frames := 2, cells := 0, slots := 0, locals := 52 }
set_option maxHeartbeats 4000000 in
set_option maxRecDepth 100000 in
theorem kM_store {p : Program} {l : Launch} {e : Env} {s : State} {m : MethodId} {args : Array Value} {below : List Frame} {meth : Method} {c : Code} {g : MG} {post : Int32 → MS → Prop} (F : gFx p s m c meth args cX3_store 5 RX3 (some .int) (mD g) (mcl g) (mty g)) (hO : MOK g) (σ : MS) (a1 : Int32) (a2 : Int32) (a3 : Int32) (a4 : Int32) (H : Heap) (locs : List Loc) (ls : Array Slot) (hS : gSt (MWd g) (MA g) s σ H locs) (hl : lv_has ls 5 [(0, .ref (mad g 62)), (1, .int a1), (2, .int a2), (3, .int a3), (4, .int a4)]) (h : wM_store post σ a1 a2 a3 a4) : W p l e rM_store s m args below meth c H locs 0 0 (MQ below (va_Qi post (gB (MWd g)) (MA g)) args s 0 0 (MA g)) (F0 m 0 ls []) := by
  have hx := F.hx
  have hb := F.hb
  have hts := F.1.2.2.2.2
  have hown := F.1.2.2.2.1
  rw [wM_store] at h
  refine lv_iload_n hx hb dX3_store_0 rfl (lv_at hl 3 rfl) ?_
  refine lv_i2l hx hb dX3_store_1 rfl ?_
  refine lv_lconst (v := 1) hx hb dX3_store_2 (by decide) ?_
  refine lv_ldc2 (v := 9) hx hb hown (hts _ q1596) dX3_store_3 ?_
  refine gw_callSi (As := [.long a3.toInt64, .long 1, .long 9]) (rest := []) F hS (tM_in l g hO σ a3.toInt64 1 9 _ h) (va_cwS 3 hts (lw_S q1593 q1594 q90 q1595) rfl rfl rfl (by decide +kernel) ⟨Nat.le_of_ble_eq_true rfl, Nat.le_of_ble_eq_true rfl⟩) rfl hl.1 rfl (Nat.le_of_ble_eq_true rfl) dX3_store_6 ⟨Nat.le_refl 0, Nat.le_refl 0⟩ (fun r2 s1 H locs h hS => ?_)
  obtain ⟨zr2, h⟩ := h
  refine lv_if_eq (tgt := 39) hx hb dX3_store_9 (by decide) (fun c3 => ?_) (fun c3 => ?_)
  · have h := h.1 c3
    refine lv_iconst (v := (-1)) hx hb dX3_store_39 (by decide) ?_
    exact gw_iret F hS h dX3_store_40
  · have h := h.2 c3
    refine lv_iload hx hb dX3_store_12 (lv_at hl 4 rfl) ?_
    refine lv_i2l hx hb dX3_store_14 rfl ?_
    refine lv_lconst (v := 1) hx hb dX3_store_15 (by decide) ?_
    refine lv_ldc2 (v := 24) hx hb hown (hts _ q1605) dX3_store_16 ?_
    refine gw_callSi (As := [.long a4.toInt64, .long 1, .long 24]) (rest := []) F hS (tM_in l g hO s1 a4.toInt64 1 24 _ h) (va_cwS 3 hts (lw_S q1593 q1594 q90 q1595) rfl rfl rfl (by decide +kernel) ⟨Nat.le_of_ble_eq_true rfl, Nat.le_of_ble_eq_true rfl⟩) rfl hl.1 rfl (Nat.le_of_ble_eq_true rfl) dX3_store_19 ⟨Nat.le_refl 0, Nat.le_refl 0⟩ (fun r5 s4 H locs h hS => ?_)
    obtain ⟨zr5, h⟩ := h
    refine lv_if_eq (tgt := 39) hx hb dX3_store_22 (by decide) (fun c6 => ?_) (fun c6 => ?_)
    · have h := h.1 c6
      refine lv_iconst (v := (-1)) hx hb dX3_store_39 (by decide) ?_
      exact gw_iret F hS h dX3_store_40
    · have h := h.2 c6
      refine lv_aload_n hx hb dX3_store_25 rfl (lv_at hl 0 rfl) ?_
      refine lv_iconst (v := 2) hx hb dX3_store_26 (by decide) ?_
      refine lv_iload_n hx hb dX3_store_27 rfl (lv_at hl 1 rfl) ?_
      refine lv_iload_n hx hb dX3_store_28 rfl (lv_at hl 2 rfl) ?_
      refine lv_iload_n hx hb dX3_store_29 rfl (lv_at hl 3 rfl) ?_
      refine lv_iload hx hb dX3_store_30 (lv_at hl 4 rfl) ?_
      refine lv_iconst (v := 0) hx hb dX3_store_32 (by decide) ?_
      refine gw_callVi (As := [.int 2, .int a1, .int a2, .int a3, .int a4, .int 0]) (rest := []) F hS (tM_makes l g hO s4 2 a1 a2 a3 a4 0 _ h) (cwV 6 hts (lw_V q1588 q1590 qs39 q90 q1591) rfl rfl rfl (by decide +kernel) ⟨Nat.le_of_ble_eq_true rfl, Nat.le_of_ble_eq_true rfl⟩) (m_rec F hO hS) rfl hl.1 rfl (Nat.le_of_ble_eq_true rfl) dX3_store_33 ⟨Nat.le_refl 0, Nat.le_refl 0⟩ (fun r8 s7 H locs h hS => ?_)
      refine lv_goto (tgt := 40) hx hb dX3_store_36 (by decide) ?_
      exact gw_iret F hS h dX3_store_40
set_option maxHeartbeats 4000000 in
set_option maxRecDepth 100000 in
theorem tM_store (l : Launch) (g : MG) (hO : MOK g) (σ : MS) (a1 : Int32) (a2 : Int32) (a3 : Int32) (a4 : Int32) (post : Int32 → MS → Prop) (h : wM_store post σ a1 a2 a3 a4) : Met l yX3_store (ws_ yX3_store cX3_store 5 (some .int)) rM_store (va_Pc [.ref (mad g 62), .int a1, .int a2, .int a3, .int a4] (gPre (MWd g) (mD g) (mcl g) (mty g) σ)) (va_Qi post (gB (MWd g)) (MA g)) 0 0 (MA g) := by
  refine Met.ofW (cc := cX3_store) (maxL := 5) (ret := (some .int)) (by decide) rfl ?_
  intro p e s m args below meth c s₁ B hml hv
  obtain ⟨rfl, hW, hK⟩ := hv
  have hts := atoms_spec (ws := (ws_ yX3_store cX3_store 5 (some .int))) B.pre
  have hts : ∀ w ∈ lw_all, w.before _ s = true := fun w h => hts w (List.mem_cons_of_mem _ h)
  have hl := lv_entry ([.ref (mad g 62), .int a1, .int a2, .int a3, .int a4]) (n := 5) (Nat.le_of_ble_eq_true rfl)
  rw [lg_entry_eq]
  generalize (lg_sl ([.ref (mad g 62), .int a1, .int a2, .int a3, .int a4]) ++ List.replicate (5 - (lg_sl ([.ref (mad g 62), .int a1, .int a2, .int a3, .int a4])).length) Slot.unset).toArray = ls at hl ⊢
  exact kM_store ⟨⟨B.exec, B.bytes, hml, findClass_of_methodNamed B.named, hts⟩, hK, B.returns, B.notSynchronized⟩ hO σ a1 a2 a3 a4 s.heap [] ls ⟨hW, va_S.rf⟩ hl h
def wM_crossing (post : Int32 → MS → Prop) (σ : MS) (a1 : Int32) (a2 : Int32) : Prop := wM_makes (fun r2 s1 => post r2 s1) σ 3 a1 a2 0 0 0
abbrev rM_crossing : Room := { frames := 2, cells := 0, slots := 0, locals := 52 }
set_option maxHeartbeats 4000000 in
set_option maxRecDepth 100000 in
theorem kM_crossing {p : Program} {l : Launch} {e : Env} {s : State} {m : MethodId} {args : Array Value} {below : List Frame} {meth : Method} {c : Code} {g : MG} {post : Int32 → MS → Prop} (F : gFx p s m c meth args cX3_crossing 3 RX3 (some .int) (mD g) (mcl g) (mty g)) (hO : MOK g) (σ : MS) (a1 : Int32) (a2 : Int32) (H : Heap) (locs : List Loc) (ls : Array Slot) (hS : gSt (MWd g) (MA g) s σ H locs) (hl : lv_has ls 3 [(0, .ref (mad g 62)), (1, .int a1), (2, .int a2)]) (h : wM_crossing post σ a1 a2) : W p l e rM_crossing s m args below meth c H locs 0 0 (MQ below (va_Qi post (gB (MWd g)) (MA g)) args s 0 0 (MA g)) (F0 m 0 ls []) := by
  have hx := F.hx
  have hb := F.hb
  have hts := F.1.2.2.2.2
  have hown := F.1.2.2.2.1
  rw [wM_crossing] at h
  refine lv_aload_n hx hb dX3_crossing_0 rfl (lv_at hl 0 rfl) ?_
  refine lv_iconst (v := 3) hx hb dX3_crossing_1 (by decide) ?_
  refine lv_iload_n hx hb dX3_crossing_2 rfl (lv_at hl 1 rfl) ?_
  refine lv_iload_n hx hb dX3_crossing_3 rfl (lv_at hl 2 rfl) ?_
  refine lv_iconst (v := 0) hx hb dX3_crossing_4 (by decide) ?_
  refine lv_iconst (v := 0) hx hb dX3_crossing_5 (by decide) ?_
  refine lv_iconst (v := 0) hx hb dX3_crossing_6 (by decide) ?_
  refine gw_callVi (As := [.int 3, .int a1, .int a2, .int 0, .int 0, .int 0]) (rest := []) F hS (tM_makes l g hO σ 3 a1 a2 0 0 0 _ h) (cwV 6 hts (lw_V q1588 q1590 qs39 q90 q1591) rfl rfl rfl (by decide +kernel) ⟨Nat.le_of_ble_eq_true rfl, Nat.le_of_ble_eq_true rfl⟩) (m_rec F hO hS) rfl hl.1 rfl (Nat.le_of_ble_eq_true rfl) dX3_crossing_7 ⟨Nat.le_refl 0, Nat.le_refl 0⟩ (fun r2 s1 H locs h hS => ?_)
  exact gw_iret F hS h dX3_crossing_10
set_option maxHeartbeats 4000000 in
set_option maxRecDepth 100000 in
theorem tM_crossing (l : Launch) (g : MG) (hO : MOK g) (σ : MS) (a1 : Int32) (a2 : Int32) (post : Int32 → MS → Prop) (h : wM_crossing post σ a1 a2) : Met l yX3_crossing (ws_ yX3_crossing cX3_crossing 3 (some .int)) rM_crossing (va_Pc [.ref (mad g 62), .int a1, .int a2] (gPre (MWd g) (mD g) (mcl g) (mty g) σ)) (va_Qi post (gB (MWd g)) (MA g)) 0 0 (MA g) := by
  refine Met.ofW (cc := cX3_crossing) (maxL := 3) (ret := (some .int)) (by decide) rfl ?_
  intro p e s m args below meth c s₁ B hml hv
  obtain ⟨rfl, hW, hK⟩ := hv
  have hts := atoms_spec (ws := (ws_ yX3_crossing cX3_crossing 3 (some .int))) B.pre
  have hts : ∀ w ∈ lw_all, w.before _ s = true := fun w h => hts w (List.mem_cons_of_mem _ h)
  have hl := lv_entry ([.ref (mad g 62), .int a1, .int a2]) (n := 3) (Nat.le_of_ble_eq_true rfl)
  rw [lg_entry_eq]
  generalize (lg_sl ([.ref (mad g 62), .int a1, .int a2]) ++ List.replicate (3 - (lg_sl ([.ref (mad g 62), .int a1, .int a2])).length) Slot.unset).toArray = ls at hl ⊢
  exact kM_crossing ⟨⟨B.exec, B.bytes, hml, findClass_of_methodNamed B.named, hts⟩, hK, B.returns, B.notSynchronized⟩ hO σ a1 a2 s.heap [] ls ⟨hW, va_S.rf⟩ hl h
def wM_town (post : Int32 → MS → Prop) (σ : MS) (a1 : Int32) (a2 : Int32) (a3 : Int32) : Prop := wM_in (fun r2 s1 => (r2 = 0 → post (-1) s1) ∧ (¬ (r2 = 0) → wM_makes (fun r5 s4 => post r5 s4) s1 4 a1 a2 0 0 a3)) σ a3.toInt64 1 9
abbrev rM_town : Room := { frames := 2, cells := 0, slots := 0, locals := 52 }
set_option maxHeartbeats 4000000 in
set_option maxRecDepth 100000 in
theorem kM_town {p : Program} {l : Launch} {e : Env} {s : State} {m : MethodId} {args : Array Value} {below : List Frame} {meth : Method} {c : Code} {g : MG} {post : Int32 → MS → Prop} (F : gFx p s m c meth args cX3_town 4 RX3 (some .int) (mD g) (mcl g) (mty g)) (hO : MOK g) (σ : MS) (a1 : Int32) (a2 : Int32) (a3 : Int32) (H : Heap) (locs : List Loc) (ls : Array Slot) (hS : gSt (MWd g) (MA g) s σ H locs) (hl : lv_has ls 4 [(0, .ref (mad g 62)), (1, .int a1), (2, .int a2), (3, .int a3)]) (h : wM_town post σ a1 a2 a3) : W p l e rM_town s m args below meth c H locs 0 0 (MQ below (va_Qi post (gB (MWd g)) (MA g)) args s 0 0 (MA g)) (F0 m 0 ls []) := by
  have hx := F.hx
  have hb := F.hb
  have hts := F.1.2.2.2.2
  have hown := F.1.2.2.2.1
  rw [wM_town] at h
  refine lv_iload_n hx hb dX3_town_0 rfl (lv_at hl 3 rfl) ?_
  refine lv_i2l hx hb dX3_town_1 rfl ?_
  refine lv_lconst (v := 1) hx hb dX3_town_2 (by decide) ?_
  refine lv_ldc2 (v := 9) hx hb hown (hts _ q1596) dX3_town_3 ?_
  refine gw_callSi (As := [.long a3.toInt64, .long 1, .long 9]) (rest := []) F hS (tM_in l g hO σ a3.toInt64 1 9 _ h) (va_cwS 3 hts (lw_S q1593 q1594 q90 q1595) rfl rfl rfl (by decide +kernel) ⟨Nat.le_of_ble_eq_true rfl, Nat.le_of_ble_eq_true rfl⟩) rfl hl.1 rfl (Nat.le_of_ble_eq_true rfl) dX3_town_6 ⟨Nat.le_refl 0, Nat.le_refl 0⟩ (fun r2 s1 H locs h hS => ?_)
  obtain ⟨zr2, h⟩ := h
  refine lv_if_eq (tgt := 25) hx hb dX3_town_9 (by decide) (fun c3 => ?_) (fun c3 => ?_)
  · have h := h.1 c3
    refine lv_iconst (v := (-1)) hx hb dX3_town_25 (by decide) ?_
    exact gw_iret F hS h dX3_town_26
  · have h := h.2 c3
    refine lv_aload_n hx hb dX3_town_12 rfl (lv_at hl 0 rfl) ?_
    refine lv_iconst (v := 4) hx hb dX3_town_13 (by decide) ?_
    refine lv_iload_n hx hb dX3_town_14 rfl (lv_at hl 1 rfl) ?_
    refine lv_iload_n hx hb dX3_town_15 rfl (lv_at hl 2 rfl) ?_
    refine lv_iconst (v := 0) hx hb dX3_town_16 (by decide) ?_
    refine lv_iconst (v := 0) hx hb dX3_town_17 (by decide) ?_
    refine lv_iload_n hx hb dX3_town_18 rfl (lv_at hl 3 rfl) ?_
    refine gw_callVi (As := [.int 4, .int a1, .int a2, .int 0, .int 0, .int a3]) (rest := []) F hS (tM_makes l g hO s1 4 a1 a2 0 0 a3 _ h) (cwV 6 hts (lw_V q1588 q1590 qs39 q90 q1591) rfl rfl rfl (by decide +kernel) ⟨Nat.le_of_ble_eq_true rfl, Nat.le_of_ble_eq_true rfl⟩) (m_rec F hO hS) rfl hl.1 rfl (Nat.le_of_ble_eq_true rfl) dX3_town_19 ⟨Nat.le_refl 0, Nat.le_refl 0⟩ (fun r5 s4 H locs h hS => ?_)
    refine lv_goto (tgt := 26) hx hb dX3_town_22 (by decide) ?_
    exact gw_iret F hS h dX3_town_26
set_option maxHeartbeats 4000000 in
set_option maxRecDepth 100000 in
theorem tM_town (l : Launch) (g : MG) (hO : MOK g) (σ : MS) (a1 : Int32) (a2 : Int32) (a3 : Int32) (post : Int32 → MS → Prop) (h : wM_town post σ a1 a2 a3) : Met l yX3_town (ws_ yX3_town cX3_town 4 (some .int)) rM_town (va_Pc [.ref (mad g 62), .int a1, .int a2, .int a3] (gPre (MWd g) (mD g) (mcl g) (mty g) σ)) (va_Qi post (gB (MWd g)) (MA g)) 0 0 (MA g) := by
  refine Met.ofW (cc := cX3_town) (maxL := 4) (ret := (some .int)) (by decide) rfl ?_
  intro p e s m args below meth c s₁ B hml hv
  obtain ⟨rfl, hW, hK⟩ := hv
  have hts := atoms_spec (ws := (ws_ yX3_town cX3_town 4 (some .int))) B.pre
  have hts : ∀ w ∈ lw_all, w.before _ s = true := fun w h => hts w (List.mem_cons_of_mem _ h)
  have hl := lv_entry ([.ref (mad g 62), .int a1, .int a2, .int a3]) (n := 4) (Nat.le_of_ble_eq_true rfl)
  rw [lg_entry_eq]
  generalize (lg_sl ([.ref (mad g 62), .int a1, .int a2, .int a3]) ++ List.replicate (4 - (lg_sl ([.ref (mad g 62), .int a1, .int a2, .int a3])).length) Slot.unset).toArray = ls at hl ⊢
  exact kM_town ⟨⟨B.exec, B.bytes, hml, findClass_of_methodNamed B.named, hts⟩, hK, B.returns, B.notSynchronized⟩ hO σ a1 a2 a3 s.heap [] ls ⟨hW, va_S.rf⟩ hl h
def wM_isPlace (post : Int32 → MS → Prop) (σ : MS) (a1 : Int32) : Prop := wM_in (fun r2 s1 => post r2 s1) σ a1.toInt64 0 (((σ 1 0) - 1).toInt64)
abbrev rM_isPlace : Room := { frames := 1, cells := 0, slots := 0, locals := 25 }
set_option maxHeartbeats 4000000 in
set_option maxRecDepth 100000 in
theorem kM_isPlace {p : Program} {l : Launch} {e : Env} {s : State} {m : MethodId} {args : Array Value} {below : List Frame} {meth : Method} {c : Code} {g : MG} {post : Int32 → MS → Prop} (F : gFx p s m c meth args cX3_isPlace 2 RX3 (some .boolean) (mD g) (mcl g) (mty g)) (hO : MOK g) (σ : MS) (a1 : Int32) (H : Heap) (locs : List Loc) (ls : Array Slot) (hS : gSt (MWd g) (MA g) s σ H locs) (hl : lv_has ls 2 [(0, .ref (mad g 62)), (1, .int a1)]) (h : wM_isPlace post σ a1) : W p l e rM_isPlace s m args below meth c H locs 0 0 (MQ below (va_Qi (zpost post) (gB (MWd g)) (MA g)) args s 0 0 (MA g)) (F0 m 0 ls []) := by
  have hx := F.hx
  have hb := F.hb
  have hts := F.1.2.2.2.2
  have hown := F.1.2.2.2.1
  rw [wM_isPlace] at h
  refine lv_iload_n hx hb dX3_isPlace_0 rfl (lv_at hl 1 rfl) ?_
  refine lv_i2l hx hb dX3_isPlace_1 rfl ?_
  refine lv_lconst (v := 0) hx hb dX3_isPlace_2 (by decide) ?_
  refine lv_aload_n hx hb dX3_isPlace_3 rfl (lv_at hl 0 rfl) ?_
  refine m_geti F hO hS 1 (by decide) rfl q1398 dX3_isPlace_4 ?_
  refine lv_iconst (v := 1) hx hb dX3_isPlace_7 (by decide) ?_
  refine lv_isub hx hb dX3_isPlace_8 ?_
  refine lv_i2l hx hb dX3_isPlace_9 rfl ?_
  refine gw_callSi (As := [.long a1.toInt64, .long 0, .long (((σ 1 0) - 1).toInt64)]) (rest := []) F hS (tM_in l g hO σ a1.toInt64 0 (((σ 1 0) - 1).toInt64) _ h) (va_cwS 3 hts (lw_S q1593 q1594 q90 q1595) rfl rfl rfl (by decide +kernel) ⟨Nat.le_of_ble_eq_true rfl, Nat.le_of_ble_eq_true rfl⟩) rfl hl.1 rfl (Nat.le_of_ble_eq_true rfl) dX3_isPlace_10 ⟨Nat.le_refl 0, Nat.le_refl 0⟩ (fun r2 s1 H locs h hS => ?_)
  obtain ⟨zr2, h⟩ := h
  exact gw_zret F hS zr2 h dX3_isPlace_13
set_option maxHeartbeats 4000000 in
set_option maxRecDepth 100000 in
theorem tM_isPlace (l : Launch) (g : MG) (hO : MOK g) (σ : MS) (a1 : Int32) (post : Int32 → MS → Prop) (h : wM_isPlace post σ a1) : Met l yX3_isPlace (ws_ yX3_isPlace cX3_isPlace 2 (some .boolean)) rM_isPlace (va_Pc [.ref (mad g 62), .int a1] (gPre (MWd g) (mD g) (mcl g) (mty g) σ)) (va_Qi (zpost post) (gB (MWd g)) (MA g)) 0 0 (MA g) := by
  refine Met.ofW (cc := cX3_isPlace) (maxL := 2) (ret := (some .boolean)) (by decide) rfl ?_
  intro p e s m args below meth c s₁ B hml hv
  obtain ⟨rfl, hW, hK⟩ := hv
  have hts := atoms_spec (ws := (ws_ yX3_isPlace cX3_isPlace 2 (some .boolean))) B.pre
  have hts : ∀ w ∈ lw_all, w.before _ s = true := fun w h => hts w (List.mem_cons_of_mem _ h)
  have hl := lv_entry ([.ref (mad g 62), .int a1]) (n := 2) (Nat.le_of_ble_eq_true rfl)
  rw [lg_entry_eq]
  generalize (lg_sl ([.ref (mad g 62), .int a1]) ++ List.replicate (2 - (lg_sl ([.ref (mad g 62), .int a1])).length) Slot.unset).toArray = ls at hl ⊢
  exact kM_isPlace ⟨⟨B.exec, B.bytes, hml, findClass_of_methodNamed B.named, hts⟩, hK, B.returns, B.notSynchronized⟩ hO σ a1 s.heap [] ls ⟨hW, va_S.rf⟩ hl h
def wM_isHouse (post : Int32 → MS → Prop) (σ : MS) (a1 : Int32) : Prop := (vp_in a1 16 ∧ (∀ v3 : Int32, v3 = (if (σ 2 a1.toNatClampNeg) ≤ 0 then 0 else 1) → post v3 σ))
abbrev rM_isHouse : Room := { frames := 0, cells := 0, slots := 0, locals := 0 }
set_option maxHeartbeats 4000000 in
set_option maxRecDepth 100000 in
theorem kM_isHouse {p : Program} {l : Launch} {e : Env} {s : State} {m : MethodId} {args : Array Value} {below : List Frame} {meth : Method} {c : Code} {g : MG} {post : Int32 → MS → Prop} (F : gFx p s m c meth args cX3_isHouse 2 RX3 (some .boolean) (mD g) (mcl g) (mty g)) (hO : MOK g) (σ : MS) (a1 : Int32) (H : Heap) (locs : List Loc) (ls : Array Slot) (hS : gSt (MWd g) (MA g) s σ H locs) (hl : lv_has ls 2 [(0, .ref (mad g 62)), (1, .int a1)]) (h : wM_isHouse post σ a1) : W p l e rM_isHouse s m args below meth c H locs 0 0 (MQ below (va_Qi (zpost post) (gB (MWd g)) (MA g)) args s 0 0 (MA g)) (F0 m 0 ls []) := by
  have hx := F.hx
  have hb := F.hb
  have hts := F.1.2.2.2.2
  have hown := F.1.2.2.2.1
  rw [wM_isHouse] at h
  refine lv_aload_n hx hb dX3_isHouse_0 rfl (lv_at hl 0 rfl) ?_
  refine m_geta F hO hS 2 (by decide) rfl q1399 dX3_isHouse_1 ?_
  refine lv_iload_n hx hb dX3_isHouse_4 rfl (lv_at hl 1 rfl) ?_
  obtain ⟨b1, h⟩ := h
  refine m_iald F hS 2 0 rfl rfl b1 dX3_isHouse_5 ?_
  refine gcut (P := ∀ (v3 : Int32) (H : Heap) (locs : List Loc) (ls : Array Slot), v3 = (if (σ 2 a1.toNatClampNeg) ≤ 0 then 0 else 1) → gSt (MWd g) (MA g) s σ H locs → lv_has ls 2 [] → W p l e rM_isHouse s m args below meth c H locs 0 0 (MQ below (va_Qi (zpost post) (gB (MWd g)) (MA g)) args s 0 0 (MA g)) (F0 m 14 ls [.int v3])) (fun v3 H locs ls ev3 hS hl => ?_) (fun J4 => ?_)
  · have h := h v3 ev3
    exact gw_zret F hS (by rw [ev3]; exact (bz_ite bz0 bz1)) h dX3_isHouse_14
  · refine lv_if_le (tgt := 13) hx hb dX3_isHouse_6 (by decide) (fun c2 => ?_) (fun c2 => ?_)
    · refine lv_iconst (v := 0) hx hb dX3_isHouse_13 (by decide) ?_
      exact J4 _ H locs ls (by first | with_reducible rfl | ((try rw [if_pos c2]); done)) hS (lv_sub hl [] rfl)
    · refine lv_iconst (v := 1) hx hb dX3_isHouse_9 (by decide) ?_
      refine lv_goto (tgt := 14) hx hb dX3_isHouse_10 (by decide) ?_
      exact J4 _ H locs ls (by first | with_reducible rfl | ((try rw [if_neg c2]); done)) hS (lv_sub hl [] rfl)
set_option maxHeartbeats 4000000 in
set_option maxRecDepth 100000 in
theorem tM_isHouse (l : Launch) (g : MG) (hO : MOK g) (σ : MS) (a1 : Int32) (post : Int32 → MS → Prop) (h : wM_isHouse post σ a1) : Met l yX3_isHouse (ws_ yX3_isHouse cX3_isHouse 2 (some .boolean)) rM_isHouse (va_Pc [.ref (mad g 62), .int a1] (gPre (MWd g) (mD g) (mcl g) (mty g) σ)) (va_Qi (zpost post) (gB (MWd g)) (MA g)) 0 0 (MA g) := by
  refine Met.ofW (cc := cX3_isHouse) (maxL := 2) (ret := (some .boolean)) (by decide) rfl ?_
  intro p e s m args below meth c s₁ B hml hv
  obtain ⟨rfl, hW, hK⟩ := hv
  have hts := atoms_spec (ws := (ws_ yX3_isHouse cX3_isHouse 2 (some .boolean))) B.pre
  have hts : ∀ w ∈ lw_all, w.before _ s = true := fun w h => hts w (List.mem_cons_of_mem _ h)
  have hl := lv_entry ([.ref (mad g 62), .int a1]) (n := 2) (Nat.le_of_ble_eq_true rfl)
  rw [lg_entry_eq]
  generalize (lg_sl ([.ref (mad g 62), .int a1]) ++ List.replicate (2 - (lg_sl ([.ref (mad g 62), .int a1])).length) Slot.unset).toArray = ls at hl ⊢
  exact kM_isHouse ⟨⟨B.exec, B.bytes, hml, findClass_of_methodNamed B.named, hts⟩, hK, B.returns, B.notSynchronized⟩ hO σ a1 s.heap [] ls ⟨hW, va_S.rf⟩ hl h
def wM_way (post : Int32 → MS → Prop) (σ : MS) (a1 : Int32) (a2 : Int32) (a3 : Int32) : Prop := wM_isPlace (fun r2 s1 => (r2 = 0 → post (-1) s1) ∧ (¬ (r2 = 0) → wM_isPlace (fun r5 s4 => (r5 = 0 → post (-1) s4) ∧ (¬ (r5 = 0) → (a1 = a2 → post (-1) s4) ∧ (¬ (a1 = a2) → wM_in (fun r9 s8 => (¬ (r9 = 0) → (vp_in (((16 : Int32) * a1) + a2) 256 ∧ ∀ x12 : Int32, x12 = s8 11 (((16 : Int32) * a1) + a2).toNatClampNeg → vp_in (((16 : Int32) * a1) + a2) 256 ∧ ∀ s13 : MS, s13 = up2 s8 11 (((16 : Int32) * a1) + a2).toNatClampNeg a3 → vp_in (((16 : Int32) * a2) + a1) 256 ∧ ∀ s15 : MS, s15 = up2 s13 11 (((16 : Int32) * a2) + a1).toNatClampNeg a3 → post x12 s15)) ∧ (r9 = 0 → post (-1) s8)) s4 a3.toInt64 0 24))) s1 a2)) σ a1
abbrev rM_way : Room := { frames := 2, cells := 0, slots := 0, locals := 46 }
set_option maxHeartbeats 4000000 in
set_option maxRecDepth 100000 in
theorem kM_way {p : Program} {l : Launch} {e : Env} {s : State} {m : MethodId} {args : Array Value} {below : List Frame} {meth : Method} {c : Code} {g : MG} {post : Int32 → MS → Prop} (F : gFx p s m c meth args cX3_way 5 RX3 (some .int) (mD g) (mcl g) (mty g)) (hO : MOK g) (σ : MS) (a1 : Int32) (a2 : Int32) (a3 : Int32) (H : Heap) (locs : List Loc) (ls : Array Slot) (hS : gSt (MWd g) (MA g) s σ H locs) (hl : lv_has ls 5 [(0, .ref (mad g 62)), (1, .int a1), (2, .int a2), (3, .int a3)]) (h : wM_way post σ a1 a2 a3) : W p l e rM_way s m args below meth c H locs 0 0 (MQ below (va_Qi post (gB (MWd g)) (MA g)) args s 0 0 (MA g)) (F0 m 0 ls []) := by
  have hx := F.hx
  have hb := F.hb
  have hts := F.1.2.2.2.2
  have hown := F.1.2.2.2.1
  rw [wM_way] at h
  refine lv_aload_n hx hb dX3_way_0 rfl (lv_at hl 0 rfl) ?_
  refine lv_iload_n hx hb dX3_way_1 rfl (lv_at hl 1 rfl) ?_
  refine gw_callVi (As := [.int a1]) (rest := []) F hS (tM_isPlace l g hO σ a1 _ h) (cwV 1 hts (lw_V q1618 q1620 qs40 q90 q1621) rfl rfl rfl (by decide +kernel) ⟨Nat.le_of_ble_eq_true rfl, Nat.le_of_ble_eq_true rfl⟩) (m_rec F hO hS) rfl hl.1 rfl (Nat.le_of_ble_eq_true rfl) dX3_way_2 ⟨Nat.le_refl 0, Nat.le_refl 0⟩ (fun r2 s1 H locs h hS => ?_)
  obtain ⟨zr2, h⟩ := h
  refine lv_if_eq (tgt := 33) hx hb dX3_way_5 (by decide) (fun c3 => ?_) (fun c3 => ?_)
  · have h := h.1 c3
    refine lv_iconst (v := (-1)) hx hb dX3_way_33 (by decide) ?_
    exact gw_iret F hS h dX3_way_34
  · have h := h.2 c3
    refine lv_aload_n hx hb dX3_way_8 rfl (lv_at hl 0 rfl) ?_
    refine lv_iload_n hx hb dX3_way_9 rfl (lv_at hl 2 rfl) ?_
    refine gw_callVi (As := [.int a2]) (rest := []) F hS (tM_isPlace l g hO s1 a2 _ h) (cwV 1 hts (lw_V q1618 q1620 qs40 q90 q1621) rfl rfl rfl (by decide +kernel) ⟨Nat.le_of_ble_eq_true rfl, Nat.le_of_ble_eq_true rfl⟩) (m_rec F hO hS) rfl hl.1 rfl (Nat.le_of_ble_eq_true rfl) dX3_way_10 ⟨Nat.le_refl 0, Nat.le_refl 0⟩ (fun r5 s4 H locs h hS => ?_)
    obtain ⟨zr5, h⟩ := h
    refine lv_if_eq (tgt := 33) hx hb dX3_way_13 (by decide) (fun c6 => ?_) (fun c6 => ?_)
    · have h := h.1 c6
      refine lv_iconst (v := (-1)) hx hb dX3_way_33 (by decide) ?_
      exact gw_iret F hS h dX3_way_34
    · have h := h.2 c6
      refine lv_iload_n hx hb dX3_way_16 rfl (lv_at hl 1 rfl) ?_
      refine lv_iload_n hx hb dX3_way_17 rfl (lv_at hl 2 rfl) ?_
      refine lv_icmp_eq (tgt := 33) hx hb dX3_way_18 (by decide) (fun c7 => ?_) (fun c7 => ?_)
      · have h := h.1 c7
        refine lv_iconst (v := (-1)) hx hb dX3_way_33 (by decide) ?_
        exact gw_iret F hS h dX3_way_34
      · have h := h.2 c7
        refine lv_iload_n hx hb dX3_way_21 rfl (lv_at hl 3 rfl) ?_
        refine lv_i2l hx hb dX3_way_22 rfl ?_
        refine lv_lconst (v := 0) hx hb dX3_way_23 (by decide) ?_
        refine lv_ldc2 (v := 24) hx hb hown (hts _ q1605) dX3_way_24 ?_
        refine gw_callSi (As := [.long a3.toInt64, .long 0, .long 24]) (rest := []) F hS (tM_in l g hO s4 a3.toInt64 0 24 _ h) (va_cwS 3 hts (lw_S q1593 q1594 q90 q1595) rfl rfl rfl (by decide +kernel) ⟨Nat.le_of_ble_eq_true rfl, Nat.le_of_ble_eq_true rfl⟩) rfl hl.1 rfl (Nat.le_of_ble_eq_true rfl) dX3_way_27 ⟨Nat.le_refl 0, Nat.le_refl 0⟩ (fun r9 s8 H locs h hS => ?_)
        obtain ⟨zr9, h⟩ := h
        refine lv_if_ne (tgt := 35) hx hb dX3_way_30 (by decide) (fun c10 => ?_) (fun c10 => ?_)
        · have h := h.1 c10
          refine lv_aload_n hx hb dX3_way_35 rfl (lv_at hl 0 rfl) ?_
          refine m_geta F hO hS 11 (by decide) rfl q1408 dX3_way_36 ?_
          refine lv_bipush (v := 16) hx hb dX3_way_39 (by decide) ?_
          refine lv_iload_n hx hb dX3_way_41 rfl (lv_at hl 1 rfl) ?_
          refine lv_imul hx hb dX3_way_42 ?_
          refine lv_iload_n hx hb dX3_way_43 rfl (lv_at hl 2 rfl) ?_
          refine lv_iadd hx hb dX3_way_44 ?_
          obtain ⟨b11, h⟩ := h
          refine m_iald F hS 11 9 rfl rfl b11 dX3_way_45 ?_
          refine lv_topi (fun x12 ex12 => ?_)
          have h := h x12 ex12
          refine lv_istore (lv' := [(4, .int x12), (0, .ref (mad g 62)), (1, .int a1), (2, .int a2), (3, .int a3)]) hx hb dX3_way_46 hl (by decide) rfl (fun ls hl => ?_)
          refine lv_aload_n hx hb dX3_way_48 rfl (lv_at hl 1 rfl) ?_
          refine m_geta F hO hS 11 (by decide) rfl q1408 dX3_way_49 ?_
          refine lv_bipush (v := 16) hx hb dX3_way_52 (by decide) ?_
          refine lv_iload_n hx hb dX3_way_54 rfl (lv_at hl 2 rfl) ?_
          refine lv_imul hx hb dX3_way_55 ?_
          refine lv_iload_n hx hb dX3_way_56 rfl (lv_at hl 3 rfl) ?_
          refine lv_iadd hx hb dX3_way_57 ?_
          refine lv_iload_n hx hb dX3_way_58 rfl (lv_at hl 4 rfl) ?_
          obtain ⟨b14, h⟩ := h
          refine m_iast F hO hS 11 9 rfl rfl b14 dX3_way_59 (fun s13 es13 H locs hS => ?_)
          have h := h s13 es13
          refine lv_aload_n hx hb dX3_way_60 rfl (lv_at hl 1 rfl) ?_
          refine m_geta F hO hS 11 (by decide) rfl q1408 dX3_way_61 ?_
          refine lv_bipush (v := 16) hx hb dX3_way_64 (by decide) ?_
          refine lv_iload_n hx hb dX3_way_66 rfl (lv_at hl 3 rfl) ?_
          refine lv_imul hx hb dX3_way_67 ?_
          refine lv_iload_n hx hb dX3_way_68 rfl (lv_at hl 2 rfl) ?_
          refine lv_iadd hx hb dX3_way_69 ?_
          refine lv_iload_n hx hb dX3_way_70 rfl (lv_at hl 4 rfl) ?_
          obtain ⟨b16, h⟩ := h
          refine m_iast F hO hS 11 9 rfl rfl b16 dX3_way_71 (fun s15 es15 H locs hS => ?_)
          have h := h s15 es15
          refine lv_iload hx hb dX3_way_72 (lv_at hl 0 rfl) ?_
          exact gw_iret F hS h dX3_way_74
        · have h := h.2 c10
          refine lv_iconst (v := (-1)) hx hb dX3_way_33 (by decide) ?_
          exact gw_iret F hS h dX3_way_34
set_option maxHeartbeats 4000000 in
set_option maxRecDepth 100000 in
theorem tM_way (l : Launch) (g : MG) (hO : MOK g) (σ : MS) (a1 : Int32) (a2 : Int32) (a3 : Int32) (post : Int32 → MS → Prop) (h : wM_way post σ a1 a2 a3) : Met l yX3_way (ws_ yX3_way cX3_way 5 (some .int)) rM_way (va_Pc [.ref (mad g 62), .int a1, .int a2, .int a3] (gPre (MWd g) (mD g) (mcl g) (mty g) σ)) (va_Qi post (gB (MWd g)) (MA g)) 0 0 (MA g) := by
  refine Met.ofW (cc := cX3_way) (maxL := 5) (ret := (some .int)) (by decide) rfl ?_
  intro p e s m args below meth c s₁ B hml hv
  obtain ⟨rfl, hW, hK⟩ := hv
  have hts := atoms_spec (ws := (ws_ yX3_way cX3_way 5 (some .int))) B.pre
  have hts : ∀ w ∈ lw_all, w.before _ s = true := fun w h => hts w (List.mem_cons_of_mem _ h)
  have hl := lv_entry ([.ref (mad g 62), .int a1, .int a2, .int a3]) (n := 5) (Nat.le_of_ble_eq_true rfl)
  rw [lg_entry_eq]
  generalize (lg_sl ([.ref (mad g 62), .int a1, .int a2, .int a3]) ++ List.replicate (5 - (lg_sl ([.ref (mad g 62), .int a1, .int a2, .int a3])).length) Slot.unset).toArray = ls at hl ⊢
  exact kM_way ⟨⟨B.exec, B.bytes, hml, findClass_of_methodNamed B.named, hts⟩, hK, B.returns, B.notSynchronized⟩ hO σ a1 a2 a3 s.heap [] ls ⟨hW, va_S.rf⟩ hl h
def wM_farOf_J197 (post : Int32 → MS → Prop) (σ : MS) (x8 : Int32) : Prop := (vp_in x8 16 ∧ (((0 ≤ (σ 16 x8.toNatClampNeg) → vp_in x8 16)) ∧ ∀ v11 : Int32, v11 = (if 0 ≤ (σ 16 x8.toNatClampNeg) then σ 16 x8.toNatClampNeg else (-4)) → post v11 σ))
def wM_farOf_L61 (post : Int32 → MS → Prop) (K191 : MS → Int32 → Int32 → Prop) : Nat → MS → Int32 → Int32 → Int32 → Int32 → Prop
  | 0, _, _, _, _, _ => False
  | n + 1, σ, x17, x18, x19, x20 => ((σ 1 0) ≤ x20 → K191 σ x17 x19) ∧ (¬ ((σ 1 0) ≤ x20) → (vp_in (((16 : Int32) * x18) + x20) 256 ∧ ∀ x23 : Int32, x23 = σ 11 (((16 : Int32) * x18) + x20).toNatClampNeg → (((¬ (x23 ≤ 0) → vp_in x20 16 ∧ ((σ 16 x20.toNatClampNeg) < 0 → vp_in x18 16 ∧ vp_in x20 16) ∧ (¬ ((σ 16 x20.toNatClampNeg) < 0) → vp_in x18 16 ∧ vp_in x20 16 ∧ (¬ ((σ 16 x20.toNatClampNeg) ≤ ((σ 16 x18.toNatClampNeg) + x23)) → vp_in x18 16 ∧ vp_in x20 16)))) ∧ ∀ s29 : MS, s29 = (if x23 ≤ 0 then σ else if (σ 16 x20.toNatClampNeg) < 0 then (up2 σ 16 x20.toNatClampNeg ((σ 16 x18.toNatClampNeg) + x23)) else if (σ 16 x20.toNatClampNeg) ≤ ((σ 16 x18.toNatClampNeg) + x23) then σ else (up2 σ 16 x20.toNatClampNeg ((σ 16 x18.toNatClampNeg) + x23))) → (vp_in x20 16 ∧ ((((s29 17 x20.toNatClampNeg) = 0 → vp_in x20 16 ∧ (¬ ((s29 16 x20.toNatClampNeg) < 0) → (¬ (x19 < 0) → vp_in x20 16 ∧ vp_in x19 16)))) ∧ ∀ v37 : Int32, v37 = (if (s29 17 x20.toNatClampNeg) = 0 then if (s29 16 x20.toNatClampNeg) < 0 then x19 else if x19 < 0 then x20 else if (s29 16 x19.toNatClampNeg) ≤ (s29 16 x20.toNatClampNeg) then x19 else x20 else x19) → (∀ x40 : Int32, x40 = x20 + 1 → wM_farOf_L61 post K191 n s29 x17 x18 v37 x40))))))
def wM_farOf_L39 (post : Int32 → MS → Prop) : Nat → MS → Int32 → Int32 → Prop
  | 0, _, _, _ => False
  | n + 1, σ, x5, x6 => (x6 < 0 → wM_farOf_J197 post σ x5) ∧ (¬ (x6 < 0) → (x6 = x5 → wM_farOf_J197 post σ x5) ∧ (¬ (x6 = x5) → (vp_in x6 16 ∧ ∀ s15 : MS, s15 = up2 σ 17 x6.toNatClampNeg 1 → ∃ n41, wM_farOf_L61 post (fun σ42 x43 x44 => wM_farOf_L39 post n σ42 x43 x44) n41 s15 x5 x6 (-1) 0)))
def wM_farOf_L2 (post : Int32 → MS → Prop) : Nat → MS → Int32 → Int32 → Int32 → Prop
  | 0, _, _, _, _ => False
  | n + 1, σ, x1, x2, x3 => (16 ≤ x3 → ∃ n45, wM_farOf_L39 post n45 σ x2 x1) ∧ (¬ (16 ≤ x3) → (∀ v47 : Int32, v47 = (if x3 = x1 then 0 else (-1)) → (vp_in x3 16 ∧ ∀ s49 : MS, s49 = up2 σ 16 x3.toNatClampNeg v47 → vp_in x3 16 ∧ ∀ s51 : MS, s51 = up2 s49 17 x3.toNatClampNeg 0 → ∀ x53 : Int32, x53 = x3 + 1 → wM_farOf_L2 post n s51 x1 x2 x53)))
def wM_farOf (post : Int32 → MS → Prop) (σ : MS) (a1 : Int32) (a2 : Int32) : Prop := ∃ n54, wM_farOf_L2 post n54 σ a1 a2 0
abbrev rM_farOf : Room := { frames := 0, cells := 0, slots := 0, locals := 0 }
set_option maxHeartbeats 4000000 in
set_option maxRecDepth 100000 in
theorem kM_farOf_J197 {p : Program} {l : Launch} {e : Env} {s : State} {m : MethodId} {args : Array Value} {below : List Frame} {meth : Method} {c : Code} {g : MG} {post : Int32 → MS → Prop} (F : gFx p s m c meth args cX3_farOf 7 RX3 (some .int) (mD g) (mcl g) (mty g)) (hO : MOK g) : ∀ (σ : MS) (x8 : Int32) (H : Heap) (locs : List Loc) (ls : Array Slot), gSt (MWd g) (MA g) s σ H locs → lv_has ls 7 [(0, .ref (mad g 62)), (2, .int x8)] → wM_farOf_J197 post σ x8 → W p l e rM_farOf s m args below meth c H locs 0 0 (MQ below (va_Qi post (gB (MWd g)) (MA g)) args s 0 0 (MA g)) (F0 m 197 ls []) := by
  have hx := F.hx
  have hb := F.hb
  have hts := F.1.2.2.2.2
  have hown := F.1.2.2.2.1
  intro σ x8 H locs ls hS hl h
  rw [wM_farOf_J197] at h
  refine lv_aload_n hx hb dX3_farOf_197 rfl (lv_at hl 0 rfl) ?_
  refine m_geta F hO hS 16 (by decide) rfl q1413 dX3_farOf_198 ?_
  refine lv_iload_n hx hb dX3_farOf_201 rfl (lv_at hl 1 rfl) ?_
  obtain ⟨b9, h⟩ := h
  refine m_iald F hS 16 13 rfl rfl b9 dX3_farOf_202 ?_
  obtain ⟨b12, h⟩ := h
  refine gcut (P := ∀ (v11 : Int32) (H : Heap) (locs : List Loc) (ls : Array Slot), v11 = (if 0 ≤ (σ 16 x8.toNatClampNeg) then σ 16 x8.toNatClampNeg else (-4)) → gSt (MWd g) (MA g) s σ H locs → lv_has ls 7 [] → W p l e rM_farOf s m args below meth c H locs 0 0 (MQ below (va_Qi post (gB (MWd g)) (MA g)) args s 0 0 (MA g)) (F0 m 217 ls [.int v11])) (fun v11 H locs ls ev11 hS hl => ?_) (fun J13 => ?_)
  · have h := h v11 ev11
    exact gw_iret F hS h dX3_farOf_217
  · refine lv_if_ge (tgt := 211) hx hb dX3_farOf_203 (by decide) (fun c10 => ?_) (fun c10 => ?_)
    · refine lv_aload_n hx hb dX3_farOf_211 rfl (lv_at hl 0 rfl) ?_
      refine m_geta F hO hS 16 (by decide) rfl q1413 dX3_farOf_212 ?_
      refine lv_iload_n hx hb dX3_farOf_215 rfl (lv_at hl 1 rfl) ?_
      refine m_iald F hS 16 13 rfl rfl ((b12 c10)) dX3_farOf_216 ?_
      exact J13 _ H locs ls (by first | with_reducible rfl | ((try rw [if_pos c10]); done)) hS (lv_sub hl [] rfl)
    · refine lv_bipush (v := (-4)) hx hb dX3_farOf_206 (by decide) ?_
      refine lv_goto (tgt := 217) hx hb dX3_farOf_208 (by decide) ?_
      exact J13 _ H locs ls (by first | with_reducible rfl | ((try rw [if_neg c10]); done)) hS (lv_sub hl [] rfl)
set_option maxHeartbeats 4000000 in
set_option maxRecDepth 100000 in
theorem kM_farOf_L61 {p : Program} {l : Launch} {e : Env} {s : State} {m : MethodId} {args : Array Value} {below : List Frame} {meth : Method} {c : Code} {g : MG} {post : Int32 → MS → Prop} {K191 : MS → Int32 → Int32 → Prop} (F : gFx p s m c meth args cX3_farOf 7 RX3 (some .int) (mD g) (mcl g) (mty g)) (hO : MOK g) (hK191 : ∀ (σ : MS) (z0 : Int32) (z1 : Int32) (H : Heap) (locs : List Loc) (ls : Array Slot), gSt (MWd g) (MA g) s σ H locs → lv_has ls 7 [(0, .ref (mad g 62)), (2, .int z0), (4, .int z1)] → K191 σ z0 z1 → W p l e rM_farOf s m args below meth c H locs 0 0 (MQ below (va_Qi post (gB (MWd g)) (MA g)) args s 0 0 (MA g)) (F0 m 191 ls [])) : ∀ (n : Nat) (σ : MS) (x17 : Int32) (x18 : Int32) (x19 : Int32) (x20 : Int32) (H : Heap) (locs : List Loc) (ls : Array Slot), gSt (MWd g) (MA g) s σ H locs → lv_has ls 7 [(0, .ref (mad g 62)), (2, .int x17), (3, .int x18), (4, .int x19), (5, .int x20)] → wM_farOf_L61 post K191 n σ x17 x18 x19 x20 → W p l e rM_farOf s m args below meth c H locs 0 0 (MQ below (va_Qi post (gB (MWd g)) (MA g)) args s 0 0 (MA g)) (F0 m 61 ls []) := by
  have hx := F.hx
  have hb := F.hb
  have hts := F.1.2.2.2.2
  have hown := F.1.2.2.2.1
  intro n
  induction n with
  | zero =>
    intro σ x17 x18 x19 x20 H locs ls hS hl h
    exact False.elim h
  | succ n ih =>
    intro σ x17 x18 x19 x20 H locs ls hS hl h
    rw [wM_farOf_L61] at h
    refine lv_iload hx hb dX3_farOf_61 (lv_at hl 4 rfl) ?_
    refine lv_aload_n hx hb dX3_farOf_63 rfl (lv_at hl 0 rfl) ?_
    refine m_geti F hO hS 1 (by decide) rfl q1398 dX3_farOf_64 ?_
    refine lv_icmp_ge (tgt := 191) hx hb dX3_farOf_67 (by decide) (fun c21 => ?_) (fun c21 => ?_)
    · have h := h.1 c21
      exact hK191 σ x17 x19 H locs ls hS (lv_sub hl [0, 1, 3] rfl) h
    · have h := h.2 c21
      refine lv_aload_n hx hb dX3_farOf_70 rfl (lv_at hl 0 rfl) ?_
      refine m_geta F hO hS 11 (by decide) rfl q1408 dX3_farOf_71 ?_
      refine lv_bipush (v := 16) hx hb dX3_farOf_74 (by decide) ?_
      refine lv_iload_n hx hb dX3_farOf_76 rfl (lv_at hl 2 rfl) ?_
      refine lv_imul hx hb dX3_farOf_77 ?_
      refine lv_iload hx hb dX3_farOf_78 (lv_at hl 4 rfl) ?_
      refine lv_iadd hx hb dX3_farOf_80 ?_
      obtain ⟨b22, h⟩ := h
      refine m_iald F hS 11 9 rfl rfl b22 dX3_farOf_81 ?_
      refine lv_topi (fun x23 ex23 => ?_)
      have h := h x23 ex23
      refine lv_istore (lv' := [(6, .int x23), (0, .ref (mad g 62)), (2, .int x17), (3, .int x18), (4, .int x19), (5, .int x20)]) hx hb dX3_farOf_82 hl (by decide) rfl (fun ls hl => ?_)
      refine lv_iload hx hb dX3_farOf_84 (lv_at hl 0 rfl) ?_
      obtain ⟨b30, h⟩ := h
      refine gcut (P := ∀ (s29 : MS) (H : Heap) (locs : List Loc) (ls : Array Slot), s29 = (if x23 ≤ 0 then σ else if (σ 16 x20.toNatClampNeg) < 0 then (up2 σ 16 x20.toNatClampNeg ((σ 16 x18.toNatClampNeg) + x23)) else if (σ 16 x20.toNatClampNeg) ≤ ((σ 16 x18.toNatClampNeg) + x23) then σ else (up2 σ 16 x20.toNatClampNeg ((σ 16 x18.toNatClampNeg) + x23))) → gSt (MWd g) (MA g) s s29 H locs → lv_has ls 7 [(0, .ref (mad g 62)), (2, .int x17), (3, .int x18), (4, .int x19), (5, .int x20)] → W p l e rM_farOf s m args below meth c H locs 0 0 (MQ below (va_Qi post (gB (MWd g)) (MA g)) args s 0 0 (MA g)) (F0 m 134 ls [])) (fun s29 H locs ls es29 hS hl => ?_) (fun J31 => ?_)
      · have h := h s29 es29
        refine lv_aload_n hx hb dX3_farOf_134 rfl (lv_at hl 0 rfl) ?_
        refine m_geta F hO hS 17 (by decide) rfl q1414 dX3_farOf_135 ?_
        refine lv_iload hx hb dX3_farOf_138 (lv_at hl 4 rfl) ?_
        obtain ⟨b32, h⟩ := h
        refine m_zald F hS 17 14 rfl rfl b32 dX3_farOf_140 ?_
        obtain ⟨b38, h⟩ := h
        refine gcut (P := ∀ (v37 : Int32) (H : Heap) (locs : List Loc) (ls : Array Slot), v37 = (if (s29 17 x20.toNatClampNeg) = 0 then if (s29 16 x20.toNatClampNeg) < 0 then x19 else if x19 < 0 then x20 else if (s29 16 x19.toNatClampNeg) ≤ (s29 16 x20.toNatClampNeg) then x19 else x20 else x19) → gSt (MWd g) (MA g) s s29 H locs → lv_has ls 7 [(0, .ref (mad g 62)), (2, .int x17), (3, .int x18), (5, .int x20)] → W p l e rM_farOf s m args below meth c H locs 0 0 (MQ below (va_Qi post (gB (MWd g)) (MA g)) args s 0 0 (MA g)) (F0 m 183 ls [.int v37])) (fun v37 H locs ls ev37 hS hl => ?_) (fun J39 => ?_)
        · have h := h v37 ev37
          refine lv_istore (lv' := [(4, .int v37), (0, .ref (mad g 62)), (2, .int x17), (3, .int x18), (5, .int x20)]) hx hb dX3_farOf_183 hl (by decide) rfl (fun ls hl => ?_)
          obtain ⟨x40, ex40⟩ : ∃ y : Int32, y = x20 + 1 := ⟨_, rfl⟩
          have h := h x40 ex40
          refine lv_iinc (v := x40) (lv' := [(5, .int x40), (4, .int v37), (0, .ref (mad g 62)), (2, .int x17), (3, .int x18)]) hx hb dX3_farOf_185 hl (k := 4) rfl (by rw [ex40]; rfl) (by decide) rfl (fun ls hl => ?_)
          refine lv_goto (tgt := 61) hx hb dX3_farOf_188 (by decide) ?_
          exact ih s29 x17 x18 v37 x40 H locs ls hS (lv_sub hl [2, 3, 4, 1, 0] rfl) h
        · refine lv_if_ne (tgt := 181) hx hb dX3_farOf_141 (by decide) (fun c33 => ?_) (fun c33 => ?_)
          · refine lv_iload hx hb dX3_farOf_181 (lv_at hl 3 rfl) ?_
            exact J39 _ H locs ls (by first | with_reducible rfl | ((try rw [if_neg c33]); done)) hS (lv_sub hl [0, 1, 2, 4] rfl)
          · refine lv_aload_n hx hb dX3_farOf_144 rfl (lv_at hl 0 rfl) ?_
            refine m_geta F hO hS 16 (by decide) rfl q1413 dX3_farOf_145 ?_
            refine lv_iload hx hb dX3_farOf_148 (lv_at hl 4 rfl) ?_
            refine m_iald F hS 16 13 rfl rfl ((b38 c33).1) dX3_farOf_150 ?_
            refine lv_if_lt (tgt := 181) hx hb dX3_farOf_151 (by decide) (fun c34 => ?_) (fun c34 => ?_)
            · refine lv_iload hx hb dX3_farOf_181 (lv_at hl 3 rfl) ?_
              exact J39 _ H locs ls (by first | with_reducible rfl | ((try rw [if_pos c33]); (try rw [if_pos c34]); done)) hS (lv_sub hl [0, 1, 2, 4] rfl)
            · refine lv_iload hx hb dX3_farOf_154 (lv_at hl 3 rfl) ?_
              refine lv_if_lt (tgt := 176) hx hb dX3_farOf_156 (by decide) (fun c35 => ?_) (fun c35 => ?_)
              · refine lv_iload hx hb dX3_farOf_176 (lv_at hl 4 rfl) ?_
                refine lv_goto (tgt := 183) hx hb dX3_farOf_178 (by decide) ?_
                exact J39 _ H locs ls (by first | with_reducible rfl | ((try rw [if_pos c33]); (try rw [if_neg c34]); (try rw [if_pos c35]); done)) hS (lv_sub hl [0, 1, 2, 4] rfl)
              · refine lv_aload_n hx hb dX3_farOf_159 rfl (lv_at hl 0 rfl) ?_
                refine m_geta F hO hS 16 (by decide) rfl q1413 dX3_farOf_160 ?_
                refine lv_iload hx hb dX3_farOf_163 (lv_at hl 4 rfl) ?_
                refine m_iald F hS 16 13 rfl rfl ((((b38 c33).2 c34) c35).1) dX3_farOf_165 ?_
                refine lv_aload_n hx hb dX3_farOf_166 rfl (lv_at hl 0 rfl) ?_
                refine m_geta F hO hS 16 (by decide) rfl q1413 dX3_farOf_167 ?_
                refine lv_iload hx hb dX3_farOf_170 (lv_at hl 3 rfl) ?_
                refine m_iald F hS 16 13 rfl rfl ((((b38 c33).2 c34) c35).2) dX3_farOf_172 ?_
                refine lv_icmp_ge (tgt := 181) hx hb dX3_farOf_173 (by decide) (fun c36 => ?_) (fun c36 => ?_)
                · refine lv_iload hx hb dX3_farOf_181 (lv_at hl 3 rfl) ?_
                  exact J39 _ H locs ls (by first | with_reducible rfl | ((try rw [if_pos c33]); (try rw [if_neg c34]); (try rw [if_neg c35]); (try rw [if_pos c36]); done)) hS (lv_sub hl [0, 1, 2, 4] rfl)
                · refine lv_iload hx hb dX3_farOf_176 (lv_at hl 4 rfl) ?_
                  refine lv_goto (tgt := 183) hx hb dX3_farOf_178 (by decide) ?_
                  exact J39 _ H locs ls (by first | with_reducible rfl | ((try rw [if_pos c33]); (try rw [if_neg c34]); (try rw [if_neg c35]); (try rw [if_neg c36]); done)) hS (lv_sub hl [0, 1, 2, 4] rfl)
      · refine lv_if_le (tgt := 134) hx hb dX3_farOf_86 (by decide) (fun c24 => ?_) (fun c24 => ?_)
        · exact J31 _ H locs ls (by first | with_reducible rfl | ((try rw [if_pos c24]); done)) hS (lv_sub hl [1, 2, 3, 4, 5] rfl)
        · refine lv_aload_n hx hb dX3_farOf_89 rfl (lv_at hl 1 rfl) ?_
          refine m_geta F hO hS 16 (by decide) rfl q1413 dX3_farOf_90 ?_
          refine lv_iload hx hb dX3_farOf_93 (lv_at hl 5 rfl) ?_
          refine m_iald F hS 16 13 rfl rfl ((b30 c24).1) dX3_farOf_95 ?_
          refine lv_if_lt (tgt := 118) hx hb dX3_farOf_96 (by decide) (fun c25 => ?_) (fun c25 => ?_)
          · refine lv_aload_n hx hb dX3_farOf_118 rfl (lv_at hl 1 rfl) ?_
            refine m_geta F hO hS 16 (by decide) rfl q1413 dX3_farOf_119 ?_
            refine lv_iload hx hb dX3_farOf_122 (lv_at hl 5 rfl) ?_
            refine lv_aload_n hx hb dX3_farOf_124 rfl (lv_at hl 1 rfl) ?_
            refine m_geta F hO hS 16 (by decide) rfl q1413 dX3_farOf_125 ?_
            refine lv_iload_n hx hb dX3_farOf_128 rfl (lv_at hl 3 rfl) ?_
            refine m_iald F hS 16 13 rfl rfl (((b30 c24).2.1 c25).1) dX3_farOf_129 ?_
            refine lv_iload hx hb dX3_farOf_130 (lv_at hl 0 rfl) ?_
            refine lv_iadd hx hb dX3_farOf_132 ?_
            refine m_iast F hO hS 16 13 rfl rfl (((b30 c24).2.1 c25).2) dX3_farOf_133 (fun s26 es26 H locs hS => ?_)
            subst es26
            exact J31 _ H locs ls (by first | with_reducible rfl | ((try rw [if_neg c24]); (try rw [if_pos c25]); done)) hS (lv_sub hl [1, 2, 3, 4, 5] rfl)
          · refine lv_aload_n hx hb dX3_farOf_99 rfl (lv_at hl 1 rfl) ?_
            refine m_geta F hO hS 16 (by decide) rfl q1413 dX3_farOf_100 ?_
            refine lv_iload_n hx hb dX3_farOf_103 rfl (lv_at hl 3 rfl) ?_
            refine m_iald F hS 16 13 rfl rfl (((b30 c24).2.2 c25).1) dX3_farOf_104 ?_
            refine lv_iload hx hb dX3_farOf_105 (lv_at hl 0 rfl) ?_
            refine lv_iadd hx hb dX3_farOf_107 ?_
            refine lv_aload_n hx hb dX3_farOf_108 rfl (lv_at hl 1 rfl) ?_
            refine m_geta F hO hS 16 (by decide) rfl q1413 dX3_farOf_109 ?_
            refine lv_iload hx hb dX3_farOf_112 (lv_at hl 5 rfl) ?_
            refine m_iald F hS 16 13 rfl rfl (((b30 c24).2.2 c25).2.1) dX3_farOf_114 ?_
            refine lv_icmp_ge (tgt := 134) hx hb dX3_farOf_115 (by decide) (fun c27 => ?_) (fun c27 => ?_)
            · exact J31 _ H locs ls (by first | with_reducible rfl | ((try rw [if_neg c24]); (try rw [if_neg c25]); (try rw [if_pos c27]); done)) hS (lv_sub hl [1, 2, 3, 4, 5] rfl)
            · refine lv_aload_n hx hb dX3_farOf_118 rfl (lv_at hl 1 rfl) ?_
              refine m_geta F hO hS 16 (by decide) rfl q1413 dX3_farOf_119 ?_
              refine lv_iload hx hb dX3_farOf_122 (lv_at hl 5 rfl) ?_
              refine lv_aload_n hx hb dX3_farOf_124 rfl (lv_at hl 1 rfl) ?_
              refine m_geta F hO hS 16 (by decide) rfl q1413 dX3_farOf_125 ?_
              refine lv_iload_n hx hb dX3_farOf_128 rfl (lv_at hl 3 rfl) ?_
              refine m_iald F hS 16 13 rfl rfl ((((b30 c24).2.2 c25).2.2 c27).1) dX3_farOf_129 ?_
              refine lv_iload hx hb dX3_farOf_130 (lv_at hl 0 rfl) ?_
              refine lv_iadd hx hb dX3_farOf_132 ?_
              refine m_iast F hO hS 16 13 rfl rfl ((((b30 c24).2.2 c25).2.2 c27).2) dX3_farOf_133 (fun s28 es28 H locs hS => ?_)
              subst es28
              exact J31 _ H locs ls (by first | with_reducible rfl | ((try rw [if_neg c24]); (try rw [if_neg c25]); (try rw [if_neg c27]); done)) hS (lv_sub hl [1, 2, 3, 4, 5] rfl)
set_option maxHeartbeats 4000000 in
set_option maxRecDepth 100000 in
theorem kM_farOf_L39 {p : Program} {l : Launch} {e : Env} {s : State} {m : MethodId} {args : Array Value} {below : List Frame} {meth : Method} {c : Code} {g : MG} {post : Int32 → MS → Prop} (F : gFx p s m c meth args cX3_farOf 7 RX3 (some .int) (mD g) (mcl g) (mty g)) (hO : MOK g) : ∀ (n : Nat) (σ : MS) (x5 : Int32) (x6 : Int32) (H : Heap) (locs : List Loc) (ls : Array Slot), gSt (MWd g) (MA g) s σ H locs → lv_has ls 7 [(0, .ref (mad g 62)), (2, .int x5), (3, .int x6)] → wM_farOf_L39 post n σ x5 x6 → W p l e rM_farOf s m args below meth c H locs 0 0 (MQ below (va_Qi post (gB (MWd g)) (MA g)) args s 0 0 (MA g)) (F0 m 39 ls []) := by
  have hx := F.hx
  have hb := F.hb
  have hts := F.1.2.2.2.2
  have hown := F.1.2.2.2.1
  intro n
  induction n with
  | zero =>
    intro σ x5 x6 H locs ls hS hl h
    exact False.elim h
  | succ n ih =>
    intro σ x5 x6 H locs ls hS hl h
    rw [wM_farOf_L39] at h
    refine lv_iload_n hx hb dX3_farOf_39 rfl (lv_at hl 2 rfl) ?_
    refine lv_if_lt (tgt := 197) hx hb dX3_farOf_40 (by decide) (fun c7 => ?_) (fun c7 => ?_)
    · have h := h.1 c7
      exact (kM_farOf_J197 F hO) σ x5 H locs ls hS (lv_sub hl [0, 1] rfl) h
    · have h := h.2 c7
      refine lv_iload_n hx hb dX3_farOf_43 rfl (lv_at hl 2 rfl) ?_
      refine lv_iload_n hx hb dX3_farOf_44 rfl (lv_at hl 1 rfl) ?_
      refine lv_icmp_eq (tgt := 197) hx hb dX3_farOf_45 (by decide) (fun c14 => ?_) (fun c14 => ?_)
      · have h := h.1 c14
        exact (kM_farOf_J197 F hO) σ x5 H locs ls hS (lv_sub hl [0, 1] rfl) h
      · have h := h.2 c14
        refine lv_aload_n hx hb dX3_farOf_48 rfl (lv_at hl 0 rfl) ?_
        refine m_geta F hO hS 17 (by decide) rfl q1414 dX3_farOf_49 ?_
        refine lv_iload_n hx hb dX3_farOf_52 rfl (lv_at hl 2 rfl) ?_
        refine lv_iconst (v := 1) hx hb dX3_farOf_53 (by decide) ?_
        obtain ⟨b16, h⟩ := h
        refine m_zast F hO hS 17 14 rfl rfl b16 bz1 dX3_farOf_54 (fun s15 es15 H locs hS => ?_)
        have h := h s15 es15
        refine lv_iconst (v := (-1)) hx hb dX3_farOf_55 (by decide) ?_
        refine lv_istore (lv' := [(4, .int (-1)), (0, .ref (mad g 62)), (2, .int x5), (3, .int x6)]) hx hb dX3_farOf_56 hl (by decide) rfl (fun ls hl => ?_)
        refine lv_iconst (v := 0) hx hb dX3_farOf_58 (by decide) ?_
        refine lv_istore (lv' := [(5, .int 0), (4, .int (-1)), (0, .ref (mad g 62)), (2, .int x5), (3, .int x6)]) hx hb dX3_farOf_59 hl (by decide) rfl (fun ls hl => ?_)
        obtain ⟨n41, h⟩ := h
        refine (kM_farOf_L61 F hO ?_ n41) s15 x5 x6 (-1) 0 H locs ls hS (lv_sub hl [2, 3, 4, 1, 0] rfl) h
        · intro σ42 x43 x44 H locs ls hS hl h
          refine lv_iload hx hb dX3_farOf_191 (lv_at hl 2 rfl) ?_
          refine lv_istore_n (lv' := [(3, .int x44), (0, .ref (mad g 62)), (2, .int x43), (4, .int x44)]) hx hb dX3_farOf_193 rfl hl (by decide) rfl (fun ls hl => ?_)
          refine lv_goto (tgt := 39) hx hb dX3_farOf_194 (by decide) ?_
          exact ih σ42 x43 x44 H locs ls hS (lv_sub hl [1, 2, 0] rfl) h
set_option maxHeartbeats 4000000 in
set_option maxRecDepth 100000 in
theorem kM_farOf_L2 {p : Program} {l : Launch} {e : Env} {s : State} {m : MethodId} {args : Array Value} {below : List Frame} {meth : Method} {c : Code} {g : MG} {post : Int32 → MS → Prop} (F : gFx p s m c meth args cX3_farOf 7 RX3 (some .int) (mD g) (mcl g) (mty g)) (hO : MOK g) : ∀ (n : Nat) (σ : MS) (x1 : Int32) (x2 : Int32) (x3 : Int32) (H : Heap) (locs : List Loc) (ls : Array Slot), gSt (MWd g) (MA g) s σ H locs → lv_has ls 7 [(0, .ref (mad g 62)), (1, .int x1), (2, .int x2), (3, .int x3)] → wM_farOf_L2 post n σ x1 x2 x3 → W p l e rM_farOf s m args below meth c H locs 0 0 (MQ below (va_Qi post (gB (MWd g)) (MA g)) args s 0 0 (MA g)) (F0 m 2 ls []) := by
  have hx := F.hx
  have hb := F.hb
  have hts := F.1.2.2.2.2
  have hown := F.1.2.2.2.1
  intro n
  induction n with
  | zero =>
    intro σ x1 x2 x3 H locs ls hS hl h
    exact False.elim h
  | succ n ih =>
    intro σ x1 x2 x3 H locs ls hS hl h
    rw [wM_farOf_L2] at h
    refine lv_iload_n hx hb dX3_farOf_2 rfl (lv_at hl 3 rfl) ?_
    refine lv_bipush (v := 16) hx hb dX3_farOf_3 (by decide) ?_
    refine lv_icmp_ge (tgt := 37) hx hb dX3_farOf_5 (by decide) (fun c4 => ?_) (fun c4 => ?_)
    · have h := h.1 c4
      refine lv_iload_n hx hb dX3_farOf_37 rfl (lv_at hl 1 rfl) ?_
      refine lv_istore_n (lv' := [(3, .int x1), (0, .ref (mad g 62)), (1, .int x1), (2, .int x2)]) hx hb dX3_farOf_38 rfl hl (by decide) rfl (fun ls hl => ?_)
      obtain ⟨n45, h⟩ := h
      exact (kM_farOf_L39 F hO n45) σ x2 x1 H locs ls hS (lv_sub hl [1, 3, 0] rfl) h
    · have h := h.2 c4
      refine lv_aload_n hx hb dX3_farOf_8 rfl (lv_at hl 0 rfl) ?_
      refine m_geta F hO hS 16 (by decide) rfl q1413 dX3_farOf_9 ?_
      refine lv_iload_n hx hb dX3_farOf_12 rfl (lv_at hl 3 rfl) ?_
      refine lv_iload_n hx hb dX3_farOf_13 rfl (lv_at hl 3 rfl) ?_
      refine lv_iload_n hx hb dX3_farOf_14 rfl (lv_at hl 1 rfl) ?_
      refine gcut (P := ∀ (v47 : Int32) (H : Heap) (locs : List Loc) (ls : Array Slot), v47 = (if x3 = x1 then 0 else (-1)) → gSt (MWd g) (MA g) s σ H locs → lv_has ls 7 [(0, .ref (mad g 62)), (1, .int x1), (2, .int x2), (3, .int x3)] → W p l e rM_farOf s m args below meth c H locs 0 0 (MQ below (va_Qi post (gB (MWd g)) (MA g)) args s 0 0 (MA g)) (F0 m 23 ls [.int v47, .int x3, .ref (mad g 16)])) (fun v47 H locs ls ev47 hS hl => ?_) (fun J48 => ?_)
      · have h := h v47 ev47
        obtain ⟨b50, h⟩ := h
        refine m_iast F hO hS 16 13 rfl rfl b50 dX3_farOf_23 (fun s49 es49 H locs hS => ?_)
        have h := h s49 es49
        refine lv_aload_n hx hb dX3_farOf_24 rfl (lv_at hl 0 rfl) ?_
        refine m_geta F hO hS 17 (by decide) rfl q1414 dX3_farOf_25 ?_
        refine lv_iload_n hx hb dX3_farOf_28 rfl (lv_at hl 3 rfl) ?_
        refine lv_iconst (v := 0) hx hb dX3_farOf_29 (by decide) ?_
        obtain ⟨b52, h⟩ := h
        refine m_zast F hO hS 17 14 rfl rfl b52 bz0 dX3_farOf_30 (fun s51 es51 H locs hS => ?_)
        have h := h s51 es51
        obtain ⟨x53, ex53⟩ : ∃ y : Int32, y = x3 + 1 := ⟨_, rfl⟩
        have h := h x53 ex53
        refine lv_iinc (v := x53) (lv' := [(3, .int x53), (0, .ref (mad g 62)), (1, .int x1), (2, .int x2)]) hx hb dX3_farOf_31 hl (k := 3) rfl (by rw [ex53]; rfl) (by decide) rfl (fun ls hl => ?_)
        refine lv_goto (tgt := 2) hx hb dX3_farOf_34 (by decide) ?_
        exact ih s51 x1 x2 x53 H locs ls hS (lv_sub hl [1, 2, 3, 0] rfl) h
      · refine lv_icmp_ne (tgt := 22) hx hb dX3_farOf_15 (by decide) (fun c46 => ?_) (fun c46 => ?_)
        · refine lv_iconst (v := (-1)) hx hb dX3_farOf_22 (by decide) ?_
          exact J48 _ H locs ls (by first | with_reducible rfl | ((try rw [if_neg c46]); done)) hS (lv_sub hl [0, 1, 2, 3] rfl)
        · refine lv_iconst (v := 0) hx hb dX3_farOf_18 (by decide) ?_
          refine lv_goto (tgt := 23) hx hb dX3_farOf_19 (by decide) ?_
          exact J48 _ H locs ls (by first | with_reducible rfl | ((try rw [if_pos c46]); done)) hS (lv_sub hl [0, 1, 2, 3] rfl)
set_option maxHeartbeats 4000000 in
set_option maxRecDepth 100000 in
theorem kM_farOf {p : Program} {l : Launch} {e : Env} {s : State} {m : MethodId} {args : Array Value} {below : List Frame} {meth : Method} {c : Code} {g : MG} {post : Int32 → MS → Prop} (F : gFx p s m c meth args cX3_farOf 7 RX3 (some .int) (mD g) (mcl g) (mty g)) (hO : MOK g) (σ : MS) (a1 : Int32) (a2 : Int32) (H : Heap) (locs : List Loc) (ls : Array Slot) (hS : gSt (MWd g) (MA g) s σ H locs) (hl : lv_has ls 7 [(0, .ref (mad g 62)), (1, .int a1), (2, .int a2)]) (h : wM_farOf post σ a1 a2) : W p l e rM_farOf s m args below meth c H locs 0 0 (MQ below (va_Qi post (gB (MWd g)) (MA g)) args s 0 0 (MA g)) (F0 m 0 ls []) := by
  have hx := F.hx
  have hb := F.hb
  have hts := F.1.2.2.2.2
  have hown := F.1.2.2.2.1
  rw [wM_farOf] at h
  refine lv_iconst (v := 0) hx hb dX3_farOf_0 (by decide) ?_
  refine lv_istore_n (lv' := [(3, .int 0), (0, .ref (mad g 62)), (1, .int a1), (2, .int a2)]) hx hb dX3_farOf_1 rfl hl (by decide) rfl (fun ls hl => ?_)
  obtain ⟨n54, h⟩ := h
  exact (kM_farOf_L2 F hO n54) σ a1 a2 0 H locs ls hS (lv_sub hl [1, 2, 3, 0] rfl) h
set_option maxHeartbeats 4000000 in
set_option maxRecDepth 100000 in
theorem tM_farOf (l : Launch) (g : MG) (hO : MOK g) (σ : MS) (a1 : Int32) (a2 : Int32) (post : Int32 → MS → Prop) (h : wM_farOf post σ a1 a2) : Met l yX3_farOf (ws_ yX3_farOf cX3_farOf 7 (some .int)) rM_farOf (va_Pc [.ref (mad g 62), .int a1, .int a2] (gPre (MWd g) (mD g) (mcl g) (mty g) σ)) (va_Qi post (gB (MWd g)) (MA g)) 0 0 (MA g) := by
  refine Met.ofW (cc := cX3_farOf) (maxL := 7) (ret := (some .int)) (by decide) rfl ?_
  intro p e s m args below meth c s₁ B hml hv
  obtain ⟨rfl, hW, hK⟩ := hv
  have hts := atoms_spec (ws := (ws_ yX3_farOf cX3_farOf 7 (some .int))) B.pre
  have hts : ∀ w ∈ lw_all, w.before _ s = true := fun w h => hts w (List.mem_cons_of_mem _ h)
  have hl := lv_entry ([.ref (mad g 62), .int a1, .int a2]) (n := 7) (Nat.le_of_ble_eq_true rfl)
  rw [lg_entry_eq]
  generalize (lg_sl ([.ref (mad g 62), .int a1, .int a2]) ++ List.replicate (7 - (lg_sl ([.ref (mad g 62), .int a1, .int a2])).length) Slot.unset).toArray = ls at hl ⊢
  exact kM_farOf ⟨⟨B.exec, B.bytes, hml, findClass_of_methodNamed B.named, hts⟩, hK, B.returns, B.notSynchronized⟩ hO σ a1 a2 s.heap [] ls ⟨hW, va_S.rf⟩ hl h
def wM_far (post : Int32 → MS → Prop) (σ : MS) (a1 : Int32) (a2 : Int32) : Prop := wM_isPlace (fun r2 s1 => (r2 = 0 → post (-1) s1) ∧ (¬ (r2 = 0) → wM_isPlace (fun r5 s4 => (r5 = 0 → post (-1) s4) ∧ (¬ (r5 = 0) → wM_farOf (fun r8 s7 => post r8 s7) s4 a1 a2)) s1 a2)) σ a1
abbrev rM_far : Room := { frames := 2, cells := 0, slots := 0, locals := 46 }
set_option maxHeartbeats 4000000 in
set_option maxRecDepth 100000 in
theorem kM_far {p : Program} {l : Launch} {e : Env} {s : State} {m : MethodId} {args : Array Value} {below : List Frame} {meth : Method} {c : Code} {g : MG} {post : Int32 → MS → Prop} (F : gFx p s m c meth args cX3_far 3 RX3 (some .int) (mD g) (mcl g) (mty g)) (hO : MOK g) (σ : MS) (a1 : Int32) (a2 : Int32) (H : Heap) (locs : List Loc) (ls : Array Slot) (hS : gSt (MWd g) (MA g) s σ H locs) (hl : lv_has ls 3 [(0, .ref (mad g 62)), (1, .int a1), (2, .int a2)]) (h : wM_far post σ a1 a2) : W p l e rM_far s m args below meth c H locs 0 0 (MQ below (va_Qi post (gB (MWd g)) (MA g)) args s 0 0 (MA g)) (F0 m 0 ls []) := by
  have hx := F.hx
  have hb := F.hb
  have hts := F.1.2.2.2.2
  have hown := F.1.2.2.2.1
  rw [wM_far] at h
  refine lv_aload_n hx hb dX3_far_0 rfl (lv_at hl 0 rfl) ?_
  refine lv_iload_n hx hb dX3_far_1 rfl (lv_at hl 1 rfl) ?_
  refine gw_callVi (As := [.int a1]) (rest := []) F hS (tM_isPlace l g hO σ a1 _ h) (cwV 1 hts (lw_V q1618 q1620 qs40 q90 q1621) rfl rfl rfl (by decide +kernel) ⟨Nat.le_of_ble_eq_true rfl, Nat.le_of_ble_eq_true rfl⟩) (m_rec F hO hS) rfl hl.1 rfl (Nat.le_of_ble_eq_true rfl) dX3_far_2 ⟨Nat.le_refl 0, Nat.le_refl 0⟩ (fun r2 s1 H locs h hS => ?_)
  obtain ⟨zr2, h⟩ := h
  refine lv_if_eq (tgt := 25) hx hb dX3_far_5 (by decide) (fun c3 => ?_) (fun c3 => ?_)
  · have h := h.1 c3
    refine lv_iconst (v := (-1)) hx hb dX3_far_25 (by decide) ?_
    exact gw_iret F hS h dX3_far_26
  · have h := h.2 c3
    refine lv_aload_n hx hb dX3_far_8 rfl (lv_at hl 0 rfl) ?_
    refine lv_iload_n hx hb dX3_far_9 rfl (lv_at hl 2 rfl) ?_
    refine gw_callVi (As := [.int a2]) (rest := []) F hS (tM_isPlace l g hO s1 a2 _ h) (cwV 1 hts (lw_V q1618 q1620 qs40 q90 q1621) rfl rfl rfl (by decide +kernel) ⟨Nat.le_of_ble_eq_true rfl, Nat.le_of_ble_eq_true rfl⟩) (m_rec F hO hS) rfl hl.1 rfl (Nat.le_of_ble_eq_true rfl) dX3_far_10 ⟨Nat.le_refl 0, Nat.le_refl 0⟩ (fun r5 s4 H locs h hS => ?_)
    obtain ⟨zr5, h⟩ := h
    refine lv_if_eq (tgt := 25) hx hb dX3_far_13 (by decide) (fun c6 => ?_) (fun c6 => ?_)
    · have h := h.1 c6
      refine lv_iconst (v := (-1)) hx hb dX3_far_25 (by decide) ?_
      exact gw_iret F hS h dX3_far_26
    · have h := h.2 c6
      refine lv_aload_n hx hb dX3_far_16 rfl (lv_at hl 0 rfl) ?_
      refine lv_iload_n hx hb dX3_far_17 rfl (lv_at hl 1 rfl) ?_
      refine lv_iload_n hx hb dX3_far_18 rfl (lv_at hl 2 rfl) ?_
      refine gw_callVi (As := [.int a1, .int a2]) (rest := []) F hS (tM_farOf l g hO s4 a1 a2 _ h) (cwV 2 hts (lw_V q1626 q1628 qs41 q90 q1629) rfl rfl rfl (by decide +kernel) ⟨Nat.le_of_ble_eq_true rfl, Nat.le_of_ble_eq_true rfl⟩) (m_rec F hO hS) rfl hl.1 rfl (Nat.le_of_ble_eq_true rfl) dX3_far_19 ⟨Nat.le_refl 0, Nat.le_refl 0⟩ (fun r8 s7 H locs h hS => ?_)
      refine lv_goto (tgt := 26) hx hb dX3_far_22 (by decide) ?_
      exact gw_iret F hS h dX3_far_26
set_option maxHeartbeats 4000000 in
set_option maxRecDepth 100000 in
theorem tM_far (l : Launch) (g : MG) (hO : MOK g) (σ : MS) (a1 : Int32) (a2 : Int32) (post : Int32 → MS → Prop) (h : wM_far post σ a1 a2) : Met l yX3_far (ws_ yX3_far cX3_far 3 (some .int)) rM_far (va_Pc [.ref (mad g 62), .int a1, .int a2] (gPre (MWd g) (mD g) (mcl g) (mty g) σ)) (va_Qi post (gB (MWd g)) (MA g)) 0 0 (MA g) := by
  refine Met.ofW (cc := cX3_far) (maxL := 3) (ret := (some .int)) (by decide) rfl ?_
  intro p e s m args below meth c s₁ B hml hv
  obtain ⟨rfl, hW, hK⟩ := hv
  have hts := atoms_spec (ws := (ws_ yX3_far cX3_far 3 (some .int))) B.pre
  have hts : ∀ w ∈ lw_all, w.before _ s = true := fun w h => hts w (List.mem_cons_of_mem _ h)
  have hl := lv_entry ([.ref (mad g 62), .int a1, .int a2]) (n := 3) (Nat.le_of_ble_eq_true rfl)
  rw [lg_entry_eq]
  generalize (lg_sl ([.ref (mad g 62), .int a1, .int a2]) ++ List.replicate (3 - (lg_sl ([.ref (mad g 62), .int a1, .int a2])).length) Slot.unset).toArray = ls at hl ⊢
  exact kM_far ⟨⟨B.exec, B.bytes, hml, findClass_of_methodNamed B.named, hts⟩, hK, B.returns, B.notSynchronized⟩ hO σ a1 a2 s.heap [] ls ⟨hW, va_S.rf⟩ hl h
def wM_knows (post : Int32 → MS → Prop) (σ : MS) (a1 : Int32) (a2 : Int32) (a3 : Int32) : Prop := wM_isPlace (fun r2 s1 => (r2 = 0 → post (-1) s1) ∧ (¬ (r2 = 0) → wM_isPlace (fun r5 s4 => (r5 = 0 → post (-1) s4) ∧ (¬ (r5 = 0) → (¬ (a1 = a2) → wM_isHouse (fun r9 s8 => (r9 = 0 → post (-12) s8) ∧ (¬ (r9 = 0) → wM_isHouse (fun r12 s11 => (¬ (r12 = 0) → (vp_in a1 16 ∧ ∀ x15 : Int32, x15 = ((s11 8 a1.toNatClampNeg) >>> (a2 &&& 31)) &&& 1 → (((a3 = 0 → vp_in a1 16) ∧ (¬ (a3 = 0) → vp_in a1 16)) ∧ ∀ v17 : Int32, v17 = (if a3 = 0 then (s11 8 a1.toNatClampNeg) &&& (((1 : Int32) <<< (a2 &&& 31)) ^^^ (-1)) else (s11 8 a1.toNatClampNeg) ||| ((1 : Int32) <<< (a2 &&& 31))) → (vp_in a1 16 ∧ ∀ s20 : MS, s20 = up2 s11 8 a1.toNatClampNeg v17 → post x15 s20)))) ∧ (r12 = 0 → post (-12) s11)) s8 a2)) s4 a1) ∧ (a1 = a2 → post (-1) s4))) s1 a2)) σ a1
abbrev rM_knows : Room := { frames := 2, cells := 0, slots := 0, locals := 46 }
set_option maxHeartbeats 4000000 in
set_option maxRecDepth 100000 in
theorem kM_knows {p : Program} {l : Launch} {e : Env} {s : State} {m : MethodId} {args : Array Value} {below : List Frame} {meth : Method} {c : Code} {g : MG} {post : Int32 → MS → Prop} (F : gFx p s m c meth args cX3_knows 5 RX3 (some .int) (mD g) (mcl g) (mty g)) (hO : MOK g) (σ : MS) (a1 : Int32) (a2 : Int32) (a3 : Int32) (H : Heap) (locs : List Loc) (ls : Array Slot) (hS : gSt (MWd g) (MA g) s σ H locs) (hl : lv_has ls 5 [(0, .ref (mad g 62)), (1, .int a1), (2, .int a2), (3, .int a3)]) (h : wM_knows post σ a1 a2 a3) : W p l e rM_knows s m args below meth c H locs 0 0 (MQ below (va_Qi post (gB (MWd g)) (MA g)) args s 0 0 (MA g)) (F0 m 0 ls []) := by
  have hx := F.hx
  have hb := F.hb
  have hts := F.1.2.2.2.2
  have hown := F.1.2.2.2.1
  rw [wM_knows] at h
  refine lv_aload_n hx hb dX3_knows_0 rfl (lv_at hl 0 rfl) ?_
  refine lv_iload_n hx hb dX3_knows_1 rfl (lv_at hl 1 rfl) ?_
  refine gw_callVi (As := [.int a1]) (rest := []) F hS (tM_isPlace l g hO σ a1 _ h) (cwV 1 hts (lw_V q1618 q1620 qs40 q90 q1621) rfl rfl rfl (by decide +kernel) ⟨Nat.le_of_ble_eq_true rfl, Nat.le_of_ble_eq_true rfl⟩) (m_rec F hO hS) rfl hl.1 rfl (Nat.le_of_ble_eq_true rfl) dX3_knows_2 ⟨Nat.le_refl 0, Nat.le_refl 0⟩ (fun r2 s1 H locs h hS => ?_)
  obtain ⟨zr2, h⟩ := h
  refine lv_if_eq (tgt := 21) hx hb dX3_knows_5 (by decide) (fun c3 => ?_) (fun c3 => ?_)
  · have h := h.1 c3
    refine lv_iconst (v := (-1)) hx hb dX3_knows_21 (by decide) ?_
    exact gw_iret F hS h dX3_knows_22
  · have h := h.2 c3
    refine lv_aload_n hx hb dX3_knows_8 rfl (lv_at hl 0 rfl) ?_
    refine lv_iload_n hx hb dX3_knows_9 rfl (lv_at hl 2 rfl) ?_
    refine gw_callVi (As := [.int a2]) (rest := []) F hS (tM_isPlace l g hO s1 a2 _ h) (cwV 1 hts (lw_V q1618 q1620 qs40 q90 q1621) rfl rfl rfl (by decide +kernel) ⟨Nat.le_of_ble_eq_true rfl, Nat.le_of_ble_eq_true rfl⟩) (m_rec F hO hS) rfl hl.1 rfl (Nat.le_of_ble_eq_true rfl) dX3_knows_10 ⟨Nat.le_refl 0, Nat.le_refl 0⟩ (fun r5 s4 H locs h hS => ?_)
    obtain ⟨zr5, h⟩ := h
    refine lv_if_eq (tgt := 21) hx hb dX3_knows_13 (by decide) (fun c6 => ?_) (fun c6 => ?_)
    · have h := h.1 c6
      refine lv_iconst (v := (-1)) hx hb dX3_knows_21 (by decide) ?_
      exact gw_iret F hS h dX3_knows_22
    · have h := h.2 c6
      refine lv_iload_n hx hb dX3_knows_16 rfl (lv_at hl 1 rfl) ?_
      refine lv_iload_n hx hb dX3_knows_17 rfl (lv_at hl 2 rfl) ?_
      refine lv_icmp_ne (tgt := 23) hx hb dX3_knows_18 (by decide) (fun c7 => ?_) (fun c7 => ?_)
      · have h := h.1 c7
        refine lv_aload_n hx hb dX3_knows_23 rfl (lv_at hl 0 rfl) ?_
        refine lv_iload_n hx hb dX3_knows_24 rfl (lv_at hl 1 rfl) ?_
        refine gw_callVi (As := [.int a1]) (rest := []) F hS (tM_isHouse l g hO s4 a1 _ h) (cwV 1 hts (lw_V q1634 q1636 qs42 q90 q1637) rfl rfl rfl (by decide +kernel) ⟨Nat.le_of_ble_eq_true rfl, Nat.le_of_ble_eq_true rfl⟩) (m_rec F hO hS) rfl hl.1 rfl (Nat.le_of_ble_eq_true rfl) dX3_knows_25 ⟨Nat.le_refl 0, Nat.le_refl 0⟩ (fun r9 s8 H locs h hS => ?_)
        obtain ⟨zr9, h⟩ := h
        refine lv_if_eq (tgt := 39) hx hb dX3_knows_28 (by decide) (fun c10 => ?_) (fun c10 => ?_)
        · have h := h.1 c10
          refine lv_bipush (v := (-12)) hx hb dX3_knows_39 (by decide) ?_
          exact gw_iret F hS h dX3_knows_41
        · have h := h.2 c10
          refine lv_aload_n hx hb dX3_knows_31 rfl (lv_at hl 0 rfl) ?_
          refine lv_iload_n hx hb dX3_knows_32 rfl (lv_at hl 2 rfl) ?_
          refine gw_callVi (As := [.int a2]) (rest := []) F hS (tM_isHouse l g hO s8 a2 _ h) (cwV 1 hts (lw_V q1634 q1636 qs42 q90 q1637) rfl rfl rfl (by decide +kernel) ⟨Nat.le_of_ble_eq_true rfl, Nat.le_of_ble_eq_true rfl⟩) (m_rec F hO hS) rfl hl.1 rfl (Nat.le_of_ble_eq_true rfl) dX3_knows_33 ⟨Nat.le_refl 0, Nat.le_refl 0⟩ (fun r12 s11 H locs h hS => ?_)
          obtain ⟨zr12, h⟩ := h
          refine lv_if_ne (tgt := 42) hx hb dX3_knows_36 (by decide) (fun c13 => ?_) (fun c13 => ?_)
          · have h := h.1 c13
            refine lv_aload_n hx hb dX3_knows_42 rfl (lv_at hl 0 rfl) ?_
            refine m_geta F hO hS 8 (by decide) rfl q1405 dX3_knows_43 ?_
            refine lv_iload_n hx hb dX3_knows_46 rfl (lv_at hl 1 rfl) ?_
            obtain ⟨b14, h⟩ := h
            refine m_iald F hS 8 6 rfl rfl b14 dX3_knows_47 ?_
            refine lv_iload_n hx hb dX3_knows_48 rfl (lv_at hl 2 rfl) ?_
            refine lv_ishr hx hb dX3_knows_49 ?_
            refine lv_iconst (v := 1) hx hb dX3_knows_50 (by decide) ?_
            refine lv_iand hx hb dX3_knows_51 ?_
            refine lv_topi (fun x15 ex15 => ?_)
            have h := h x15 ex15
            refine lv_istore (lv' := [(4, .int x15), (0, .ref (mad g 62)), (1, .int a1), (2, .int a2), (3, .int a3)]) hx hb dX3_knows_52 hl (by decide) rfl (fun ls hl => ?_)
            refine lv_aload_n hx hb dX3_knows_54 rfl (lv_at hl 1 rfl) ?_
            refine m_geta F hO hS 8 (by decide) rfl q1405 dX3_knows_55 ?_
            refine lv_iload_n hx hb dX3_knows_58 rfl (lv_at hl 2 rfl) ?_
            refine lv_iload_n hx hb dX3_knows_59 rfl (lv_at hl 4 rfl) ?_
            obtain ⟨b18, h⟩ := h
            refine gcut (P := ∀ (v17 : Int32) (H : Heap) (locs : List Loc) (ls : Array Slot), v17 = (if a3 = 0 then (s11 8 a1.toNatClampNeg) &&& (((1 : Int32) <<< (a2 &&& 31)) ^^^ (-1)) else (s11 8 a1.toNatClampNeg) ||| ((1 : Int32) <<< (a2 &&& 31))) → gSt (MWd g) (MA g) s s11 H locs → lv_has ls 5 [(4, .int x15)] → W p l e rM_knows s m args below meth c H locs 0 0 (MQ below (va_Qi post (gB (MWd g)) (MA g)) args s 0 0 (MA g)) (F0 m 88 ls [.int v17, .int a1, .ref (mad g 8)])) (fun v17 H locs ls ev17 hS hl => ?_) (fun J19 => ?_)
            · have h := h v17 ev17
              obtain ⟨b21, h⟩ := h
              refine m_iast F hO hS 8 6 rfl rfl b21 dX3_knows_88 (fun s20 es20 H locs hS => ?_)
              have h := h s20 es20
              refine lv_iload hx hb dX3_knows_89 (lv_at hl 0 rfl) ?_
              exact gw_iret F hS h dX3_knows_91
            · refine lv_if_eq (tgt := 76) hx hb dX3_knows_60 (by decide) (fun c16 => ?_) (fun c16 => ?_)
              · refine lv_aload_n hx hb dX3_knows_76 rfl (lv_at hl 1 rfl) ?_
                refine m_geta F hO hS 8 (by decide) rfl q1405 dX3_knows_77 ?_
                refine lv_iload_n hx hb dX3_knows_80 rfl (lv_at hl 2 rfl) ?_
                refine m_iald F hS 8 6 rfl rfl ((b18.1 c16)) dX3_knows_81 ?_
                refine lv_iconst (v := 1) hx hb dX3_knows_82 (by decide) ?_
                refine lv_iload_n hx hb dX3_knows_83 rfl (lv_at hl 3 rfl) ?_
                refine lv_ishl hx hb dX3_knows_84 ?_
                refine lv_iconst (v := (-1)) hx hb dX3_knows_85 (by decide) ?_
                refine lv_ixor hx hb dX3_knows_86 ?_
                refine lv_iand hx hb dX3_knows_87 ?_
                exact J19 _ H locs ls (by first | with_reducible rfl | ((try rw [if_pos c16]); done)) hS (lv_sub hl [0] rfl)
              · refine lv_aload_n hx hb dX3_knows_63 rfl (lv_at hl 1 rfl) ?_
                refine m_geta F hO hS 8 (by decide) rfl q1405 dX3_knows_64 ?_
                refine lv_iload_n hx hb dX3_knows_67 rfl (lv_at hl 2 rfl) ?_
                refine m_iald F hS 8 6 rfl rfl ((b18.2 c16)) dX3_knows_68 ?_
                refine lv_iconst (v := 1) hx hb dX3_knows_69 (by decide) ?_
                refine lv_iload_n hx hb dX3_knows_70 rfl (lv_at hl 3 rfl) ?_
                refine lv_ishl hx hb dX3_knows_71 ?_
                refine lv_ior hx hb dX3_knows_72 ?_
                refine lv_goto (tgt := 88) hx hb dX3_knows_73 (by decide) ?_
                exact J19 _ H locs ls (by first | with_reducible rfl | ((try rw [if_neg c16]); done)) hS (lv_sub hl [0] rfl)
          · have h := h.2 c13
            refine lv_bipush (v := (-12)) hx hb dX3_knows_39 (by decide) ?_
            exact gw_iret F hS h dX3_knows_41
      · have h := h.2 c7
        refine lv_iconst (v := (-1)) hx hb dX3_knows_21 (by decide) ?_
        exact gw_iret F hS h dX3_knows_22
set_option maxHeartbeats 4000000 in
set_option maxRecDepth 100000 in
theorem tM_knows (l : Launch) (g : MG) (hO : MOK g) (σ : MS) (a1 : Int32) (a2 : Int32) (a3 : Int32) (post : Int32 → MS → Prop) (h : wM_knows post σ a1 a2 a3) : Met l yX3_knows (ws_ yX3_knows cX3_knows 5 (some .int)) rM_knows (va_Pc [.ref (mad g 62), .int a1, .int a2, .int a3] (gPre (MWd g) (mD g) (mcl g) (mty g) σ)) (va_Qi post (gB (MWd g)) (MA g)) 0 0 (MA g) := by
  refine Met.ofW (cc := cX3_knows) (maxL := 5) (ret := (some .int)) (by decide) rfl ?_
  intro p e s m args below meth c s₁ B hml hv
  obtain ⟨rfl, hW, hK⟩ := hv
  have hts := atoms_spec (ws := (ws_ yX3_knows cX3_knows 5 (some .int))) B.pre
  have hts : ∀ w ∈ lw_all, w.before _ s = true := fun w h => hts w (List.mem_cons_of_mem _ h)
  have hl := lv_entry ([.ref (mad g 62), .int a1, .int a2, .int a3]) (n := 5) (Nat.le_of_ble_eq_true rfl)
  rw [lg_entry_eq]
  generalize (lg_sl ([.ref (mad g 62), .int a1, .int a2, .int a3]) ++ List.replicate (5 - (lg_sl ([.ref (mad g 62), .int a1, .int a2, .int a3])).length) Slot.unset).toArray = ls at hl ⊢
  exact kM_knows ⟨⟨B.exec, B.bytes, hml, findClass_of_methodNamed B.named, hts⟩, hK, B.returns, B.notSynchronized⟩ hO σ a1 a2 a3 s.heap [] ls ⟨hW, va_S.rf⟩ hl h
def wM_isLit_L5 (post : Int32 → MS → Prop) : Nat → MS → Int32 → Int32 → Int32 → Int32 → Prop
  | 0, _, _, _, _, _ => False
  | n + 1, σ, x1, x2, x3, x4 => ((σ 12 0) ≤ x4 → bz x3 ∧ post x3 σ) ∧ (¬ ((σ 12 0) ≤ x4) → (vp_in x4 60 ∧ ((((σ 14 x4.toNatClampNeg) = x1 → vp_in x4 60 ∧ (¬ (x2 < (σ 13 x4.toNatClampNeg)) → vp_in x4 60))) ∧ ∀ v9 : Int32, v9 = (if (σ 14 x4.toNatClampNeg) = x1 then if x2 < (σ 13 x4.toNatClampNeg) then x3 else σ 15 x4.toNatClampNeg else x3) → (∀ x12 : Int32, x12 = x4 + 1 → wM_isLit_L5 post n σ x1 x2 v9 x12))))
def wM_isLit (post : Int32 → MS → Prop) (σ : MS) (a1 : Int32) (a2 : Int32) : Prop := ∃ n13, wM_isLit_L5 post n13 σ a1 a2 1 0
abbrev rM_isLit : Room := { frames := 0, cells := 0, slots := 0, locals := 0 }
set_option maxHeartbeats 4000000 in
set_option maxRecDepth 100000 in
theorem kM_isLit_L5 {p : Program} {l : Launch} {e : Env} {s : State} {m : MethodId} {args : Array Value} {below : List Frame} {meth : Method} {c : Code} {g : MG} {post : Int32 → MS → Prop} (F : gFx p s m c meth args cX3_isLit 5 RX3 (some .boolean) (mD g) (mcl g) (mty g)) (hO : MOK g) : ∀ (n : Nat) (σ : MS) (x1 : Int32) (x2 : Int32) (x3 : Int32) (x4 : Int32) (H : Heap) (locs : List Loc) (ls : Array Slot), gSt (MWd g) (MA g) s σ H locs → lv_has ls 5 [(0, .ref (mad g 62)), (1, .int x1), (2, .int x2), (3, .int x3), (4, .int x4)] → wM_isLit_L5 post n σ x1 x2 x3 x4 → W p l e rM_isLit s m args below meth c H locs 0 0 (MQ below (va_Qi (zpost post) (gB (MWd g)) (MA g)) args s 0 0 (MA g)) (F0 m 5 ls []) := by
  have hx := F.hx
  have hb := F.hb
  have hts := F.1.2.2.2.2
  have hown := F.1.2.2.2.1
  intro n
  induction n with
  | zero =>
    intro σ x1 x2 x3 x4 H locs ls hS hl h
    exact False.elim h
  | succ n ih =>
    intro σ x1 x2 x3 x4 H locs ls hS hl h
    rw [wM_isLit_L5] at h
    refine lv_iload hx hb dX3_isLit_5 (lv_at hl 4 rfl) ?_
    refine lv_aload_n hx hb dX3_isLit_7 rfl (lv_at hl 0 rfl) ?_
    refine m_geti F hO hS 12 (by decide) rfl q1409 dX3_isLit_8 ?_
    refine lv_icmp_ge (tgt := 54) hx hb dX3_isLit_11 (by decide) (fun c5 => ?_) (fun c5 => ?_)
    · have h := h.1 c5
      refine lv_iload_n hx hb dX3_isLit_54 rfl (lv_at hl 3 rfl) ?_
      exact gw_zret F hS h.1 h.2 dX3_isLit_55
    · have h := h.2 c5
      refine lv_aload_n hx hb dX3_isLit_14 rfl (lv_at hl 0 rfl) ?_
      refine m_geta F hO hS 14 (by decide) rfl q1411 dX3_isLit_15 ?_
      refine lv_iload hx hb dX3_isLit_18 (lv_at hl 4 rfl) ?_
      obtain ⟨b6, h⟩ := h
      refine m_iald F hS 14 11 rfl rfl b6 dX3_isLit_20 ?_
      refine lv_iload_n hx hb dX3_isLit_21 rfl (lv_at hl 1 rfl) ?_
      obtain ⟨b10, h⟩ := h
      refine gcut (P := ∀ (v9 : Int32) (H : Heap) (locs : List Loc) (ls : Array Slot), v9 = (if (σ 14 x4.toNatClampNeg) = x1 then if x2 < (σ 13 x4.toNatClampNeg) then x3 else σ 15 x4.toNatClampNeg else x3) → gSt (MWd g) (MA g) s σ H locs → lv_has ls 5 [(0, .ref (mad g 62)), (1, .int x1), (2, .int x2), (4, .int x4)] → W p l e rM_isLit s m args below meth c H locs 0 0 (MQ below (va_Qi (zpost post) (gB (MWd g)) (MA g)) args s 0 0 (MA g)) (F0 m 47 ls [.int v9])) (fun v9 H locs ls ev9 hS hl => ?_) (fun J11 => ?_)
      · have h := h v9 ev9
        refine lv_istore_n (lv' := [(3, .int v9), (0, .ref (mad g 62)), (1, .int x1), (2, .int x2), (4, .int x4)]) hx hb dX3_isLit_47 rfl hl (by decide) rfl (fun ls hl => ?_)
        obtain ⟨x12, ex12⟩ : ∃ y : Int32, y = x4 + 1 := ⟨_, rfl⟩
        have h := h x12 ex12
        refine lv_iinc (v := x12) (lv' := [(4, .int x12), (3, .int v9), (0, .ref (mad g 62)), (1, .int x1), (2, .int x2)]) hx hb dX3_isLit_48 hl (k := 4) rfl (by rw [ex12]; rfl) (by decide) rfl (fun ls hl => ?_)
        refine lv_goto (tgt := 5) hx hb dX3_isLit_51 (by decide) ?_
        exact ih σ x1 x2 v9 x12 H locs ls hS (lv_sub hl [2, 3, 4, 1, 0] rfl) h
      · refine lv_icmp_ne (tgt := 46) hx hb dX3_isLit_22 (by decide) (fun c7 => ?_) (fun c7 => ?_)
        · refine lv_iload_n hx hb dX3_isLit_46 rfl (lv_at hl 3 rfl) ?_
          exact J11 _ H locs ls (by first | with_reducible rfl | ((try rw [if_neg c7]); done)) hS (lv_sub hl [0, 1, 2, 4] rfl)
        · refine lv_aload_n hx hb dX3_isLit_25 rfl (lv_at hl 0 rfl) ?_
          refine m_geta F hO hS 13 (by decide) rfl q1410 dX3_isLit_26 ?_
          refine lv_iload hx hb dX3_isLit_29 (lv_at hl 4 rfl) ?_
          refine m_iald F hS 13 10 rfl rfl ((b10 c7).1) dX3_isLit_31 ?_
          refine lv_iload_n hx hb dX3_isLit_32 rfl (lv_at hl 2 rfl) ?_
          refine lv_icmp_gt (tgt := 46) hx hb dX3_isLit_33 (by decide) (fun c8 => ?_) (fun c8 => ?_)
          · refine lv_iload_n hx hb dX3_isLit_46 rfl (lv_at hl 3 rfl) ?_
            exact J11 _ H locs ls (by first | with_reducible rfl | ((try rw [if_pos c7]); (try rw [if_pos c8]); done)) hS (lv_sub hl [0, 1, 2, 4] rfl)
          · refine lv_aload_n hx hb dX3_isLit_36 rfl (lv_at hl 0 rfl) ?_
            refine m_geta F hO hS 15 (by decide) rfl q1412 dX3_isLit_37 ?_
            refine lv_iload hx hb dX3_isLit_40 (lv_at hl 4 rfl) ?_
            refine m_zald F hS 15 12 rfl rfl (((b10 c7).2 c8)) dX3_isLit_42 ?_
            refine lv_goto (tgt := 47) hx hb dX3_isLit_43 (by decide) ?_
            exact J11 _ H locs ls (by first | with_reducible rfl | ((try rw [if_pos c7]); (try rw [if_neg c8]); done)) hS (lv_sub hl [0, 1, 2, 4] rfl)
set_option maxHeartbeats 4000000 in
set_option maxRecDepth 100000 in
theorem kM_isLit {p : Program} {l : Launch} {e : Env} {s : State} {m : MethodId} {args : Array Value} {below : List Frame} {meth : Method} {c : Code} {g : MG} {post : Int32 → MS → Prop} (F : gFx p s m c meth args cX3_isLit 5 RX3 (some .boolean) (mD g) (mcl g) (mty g)) (hO : MOK g) (σ : MS) (a1 : Int32) (a2 : Int32) (H : Heap) (locs : List Loc) (ls : Array Slot) (hS : gSt (MWd g) (MA g) s σ H locs) (hl : lv_has ls 5 [(0, .ref (mad g 62)), (1, .int a1), (2, .int a2)]) (h : wM_isLit post σ a1 a2) : W p l e rM_isLit s m args below meth c H locs 0 0 (MQ below (va_Qi (zpost post) (gB (MWd g)) (MA g)) args s 0 0 (MA g)) (F0 m 0 ls []) := by
  have hx := F.hx
  have hb := F.hb
  have hts := F.1.2.2.2.2
  have hown := F.1.2.2.2.1
  rw [wM_isLit] at h
  refine lv_iconst (v := 1) hx hb dX3_isLit_0 (by decide) ?_
  refine lv_istore_n (lv' := [(3, .int 1), (0, .ref (mad g 62)), (1, .int a1), (2, .int a2)]) hx hb dX3_isLit_1 rfl hl (by decide) rfl (fun ls hl => ?_)
  refine lv_iconst (v := 0) hx hb dX3_isLit_2 (by decide) ?_
  refine lv_istore (lv' := [(4, .int 0), (3, .int 1), (0, .ref (mad g 62)), (1, .int a1), (2, .int a2)]) hx hb dX3_isLit_3 hl (by decide) rfl (fun ls hl => ?_)
  obtain ⟨n13, h⟩ := h
  exact (kM_isLit_L5 F hO n13) σ a1 a2 1 0 H locs ls hS (lv_sub hl [2, 3, 4, 1, 0] rfl) h
set_option maxHeartbeats 4000000 in
set_option maxRecDepth 100000 in
theorem tM_isLit (l : Launch) (g : MG) (hO : MOK g) (σ : MS) (a1 : Int32) (a2 : Int32) (post : Int32 → MS → Prop) (h : wM_isLit post σ a1 a2) : Met l yX3_isLit (ws_ yX3_isLit cX3_isLit 5 (some .boolean)) rM_isLit (va_Pc [.ref (mad g 62), .int a1, .int a2] (gPre (MWd g) (mD g) (mcl g) (mty g) σ)) (va_Qi (zpost post) (gB (MWd g)) (MA g)) 0 0 (MA g) := by
  refine Met.ofW (cc := cX3_isLit) (maxL := 5) (ret := (some .boolean)) (by decide) rfl ?_
  intro p e s m args below meth c s₁ B hml hv
  obtain ⟨rfl, hW, hK⟩ := hv
  have hts := atoms_spec (ws := (ws_ yX3_isLit cX3_isLit 5 (some .boolean))) B.pre
  have hts : ∀ w ∈ lw_all, w.before _ s = true := fun w h => hts w (List.mem_cons_of_mem _ h)
  have hl := lv_entry ([.ref (mad g 62), .int a1, .int a2]) (n := 5) (Nat.le_of_ble_eq_true rfl)
  rw [lg_entry_eq]
  generalize (lg_sl ([.ref (mad g 62), .int a1, .int a2]) ++ List.replicate (5 - (lg_sl ([.ref (mad g 62), .int a1, .int a2])).length) Slot.unset).toArray = ls at hl ⊢
  exact kM_isLit ⟨⟨B.exec, B.bytes, hml, findClass_of_methodNamed B.named, hts⟩, hK, B.returns, B.notSynchronized⟩ hO σ a1 a2 s.heap [] ls ⟨hW, va_S.rf⟩ hl h
def wM_lamp (post : Int32 → MS → Prop) (σ : MS) (a1 : Int32) (a2 : Int32) : Prop := wM_isPlace (fun r2 s1 => (¬ (r2 = 0) → wM_isHouse (fun r5 s4 => (¬ (r5 = 0) → wM_isLit (fun r8 s7 => (¬ (r8 = a2) → (¬ ((s7 12 0) = 60) → (vp_in (s7 12 0) 60 ∧ ∀ s11 : MS, s11 = up2 s7 13 (s7 12 0).toNatClampNeg (s7 0 0) → vp_in (s11 12 0) 60 ∧ ∀ s13 : MS, s13 = up2 s11 14 (s11 12 0).toNatClampNeg a1 → (vp_in (s13 12 0) 60 ∧ bz a2) ∧ ∀ s15 : MS, s15 = up2 s13 15 (s13 12 0).toNatClampNeg a2 → ∀ s17 : MS, s17 = up2 s15 12 0 ((s15 12 0) + 1) → (∀ v19 : Int32, v19 = (if r8 = 0 then 0 else 1) → post v19 s17))) ∧ ((s7 12 0) = 60 → post (-3) s7)) ∧ (r8 = a2 → (∀ v22 : Int32, v22 = (if r8 = 0 then 0 else 1) → post v22 s7))) s4 a1 (s4 0 0)) ∧ (r5 = 0 → post (-12) s4)) s1 a1) ∧ (r2 = 0 → post (-1) s1)) σ a1
abbrev rM_lamp : Room := { frames := 2, cells := 0, slots := 0, locals := 46 }
set_option maxHeartbeats 4000000 in
set_option maxRecDepth 100000 in
theorem kM_lamp {p : Program} {l : Launch} {e : Env} {s : State} {m : MethodId} {args : Array Value} {below : List Frame} {meth : Method} {c : Code} {g : MG} {post : Int32 → MS → Prop} (F : gFx p s m c meth args cX3_lamp 4 RX3 (some .int) (mD g) (mcl g) (mty g)) (hO : MOK g) (σ : MS) (a1 : Int32) (a2 : Int32) (H : Heap) (locs : List Loc) (ls : Array Slot) (hS : gSt (MWd g) (MA g) s σ H locs) (hl : lv_has ls 4 [(0, .ref (mad g 62)), (1, .int a1), (2, .int a2)]) (h : wM_lamp post σ a1 a2) : W p l e rM_lamp s m args below meth c H locs 0 0 (MQ below (va_Qi post (gB (MWd g)) (MA g)) args s 0 0 (MA g)) (F0 m 0 ls []) := by
  have hx := F.hx
  have hb := F.hb
  have hts := F.1.2.2.2.2
  have hown := F.1.2.2.2.1
  rw [wM_lamp] at h
  refine lv_aload_n hx hb dX3_lamp_0 rfl (lv_at hl 0 rfl) ?_
  refine lv_iload_n hx hb dX3_lamp_1 rfl (lv_at hl 1 rfl) ?_
  refine gw_callVi (As := [.int a1]) (rest := []) F hS (tM_isPlace l g hO σ a1 _ h) (cwV 1 hts (lw_V q1618 q1620 qs40 q90 q1621) rfl rfl rfl (by decide +kernel) ⟨Nat.le_of_ble_eq_true rfl, Nat.le_of_ble_eq_true rfl⟩) (m_rec F hO hS) rfl hl.1 rfl (Nat.le_of_ble_eq_true rfl) dX3_lamp_2 ⟨Nat.le_refl 0, Nat.le_refl 0⟩ (fun r2 s1 H locs h hS => ?_)
  obtain ⟨zr2, h⟩ := h
  refine lv_if_ne (tgt := 10) hx hb dX3_lamp_5 (by decide) (fun c3 => ?_) (fun c3 => ?_)
  · have h := h.1 c3
    refine lv_aload_n hx hb dX3_lamp_10 rfl (lv_at hl 0 rfl) ?_
    refine lv_iload_n hx hb dX3_lamp_11 rfl (lv_at hl 1 rfl) ?_
    refine gw_callVi (As := [.int a1]) (rest := []) F hS (tM_isHouse l g hO s1 a1 _ h) (cwV 1 hts (lw_V q1634 q1636 qs42 q90 q1637) rfl rfl rfl (by decide +kernel) ⟨Nat.le_of_ble_eq_true rfl, Nat.le_of_ble_eq_true rfl⟩) (m_rec F hO hS) rfl hl.1 rfl (Nat.le_of_ble_eq_true rfl) dX3_lamp_12 ⟨Nat.le_refl 0, Nat.le_refl 0⟩ (fun r5 s4 H locs h hS => ?_)
    obtain ⟨zr5, h⟩ := h
    refine lv_if_ne (tgt := 21) hx hb dX3_lamp_15 (by decide) (fun c6 => ?_) (fun c6 => ?_)
    · have h := h.1 c6
      refine lv_aload_n hx hb dX3_lamp_21 rfl (lv_at hl 0 rfl) ?_
      refine lv_iload_n hx hb dX3_lamp_22 rfl (lv_at hl 1 rfl) ?_
      refine lv_aload_n hx hb dX3_lamp_23 rfl (lv_at hl 0 rfl) ?_
      refine m_geti F hO hS 0 (by decide) rfl q1397 dX3_lamp_24 ?_
      refine gw_callVi (As := [.int a1, .int (s4 0 0)]) (rest := []) F hS (tM_isLit l g hO s4 a1 (s4 0 0) _ h) (cwV 2 hts (lw_V q1642 q1644 qs43 q90 q1645) rfl rfl rfl (by decide +kernel) ⟨Nat.le_of_ble_eq_true rfl, Nat.le_of_ble_eq_true rfl⟩) (m_rec F hO hS) rfl hl.1 rfl (Nat.le_of_ble_eq_true rfl) dX3_lamp_27 ⟨Nat.le_refl 0, Nat.le_refl 0⟩ (fun r8 s7 H locs h hS => ?_)
      obtain ⟨zr8, h⟩ := h
      refine lv_istore_n (lv' := [(3, .int r8), (0, .ref (mad g 62)), (1, .int a1), (2, .int a2)]) hx hb dX3_lamp_30 rfl hl (by decide) rfl (fun ls hl => ?_)
      refine lv_iload_n hx hb dX3_lamp_31 rfl (lv_at hl 0 rfl) ?_
      refine lv_iload_n hx hb dX3_lamp_32 rfl (lv_at hl 3 rfl) ?_
      refine lv_icmp_ne (tgt := 46) hx hb dX3_lamp_33 (by decide) (fun c9 => ?_) (fun c9 => ?_)
      · have h := h.1 c9
        refine lv_aload_n hx hb dX3_lamp_46 rfl (lv_at hl 1 rfl) ?_
        refine m_geti F hO hS 12 (by decide) rfl q1409 dX3_lamp_47 ?_
        refine lv_bipush (v := 60) hx hb dX3_lamp_50 (by decide) ?_
        refine lv_icmp_ne (tgt := 58) hx hb dX3_lamp_52 (by decide) (fun c10 => ?_) (fun c10 => ?_)
        · have h := h.1 c10
          refine lv_aload_n hx hb dX3_lamp_58 rfl (lv_at hl 1 rfl) ?_
          refine m_geta F hO hS 13 (by decide) rfl q1410 dX3_lamp_59 ?_
          refine lv_aload_n hx hb dX3_lamp_62 rfl (lv_at hl 1 rfl) ?_
          refine m_geti F hO hS 12 (by decide) rfl q1409 dX3_lamp_63 ?_
          refine lv_aload_n hx hb dX3_lamp_66 rfl (lv_at hl 1 rfl) ?_
          refine m_geti F hO hS 0 (by decide) rfl q1397 dX3_lamp_67 ?_
          obtain ⟨b12, h⟩ := h
          refine m_iast F hO hS 13 10 rfl rfl b12 dX3_lamp_70 (fun s11 es11 H locs hS => ?_)
          have h := h s11 es11
          refine lv_aload_n hx hb dX3_lamp_71 rfl (lv_at hl 1 rfl) ?_
          refine m_geta F hO hS 14 (by decide) rfl q1411 dX3_lamp_72 ?_
          refine lv_aload_n hx hb dX3_lamp_75 rfl (lv_at hl 1 rfl) ?_
          refine m_geti F hO hS 12 (by decide) rfl q1409 dX3_lamp_76 ?_
          refine lv_iload_n hx hb dX3_lamp_79 rfl (lv_at hl 2 rfl) ?_
          obtain ⟨b14, h⟩ := h
          refine m_iast F hO hS 14 11 rfl rfl b14 dX3_lamp_80 (fun s13 es13 H locs hS => ?_)
          have h := h s13 es13
          refine lv_aload_n hx hb dX3_lamp_81 rfl (lv_at hl 1 rfl) ?_
          refine m_geta F hO hS 15 (by decide) rfl q1412 dX3_lamp_82 ?_
          refine lv_aload_n hx hb dX3_lamp_85 rfl (lv_at hl 1 rfl) ?_
          refine m_geti F hO hS 12 (by decide) rfl q1409 dX3_lamp_86 ?_
          refine lv_iload_n hx hb dX3_lamp_89 rfl (lv_at hl 3 rfl) ?_
          obtain ⟨b16, h⟩ := h
          refine m_zast F hO hS 15 12 rfl rfl b16.1 b16.2 dX3_lamp_90 (fun s15 es15 H locs hS => ?_)
          have h := h s15 es15
          refine lv_aload_n hx hb dX3_lamp_91 rfl (lv_at hl 1 rfl) ?_
          refine lv_dup hx hb dX3_lamp_92 rfl ?_
          refine m_geti F hO hS 12 (by decide) rfl q1409 dX3_lamp_93 ?_
          refine lv_iconst (v := 1) hx hb dX3_lamp_96 (by decide) ?_
          refine lv_iadd hx hb dX3_lamp_97 ?_
          refine m_puti F hO hS 12 (by decide) rfl q1409 rfl (by decide +kernel) dX3_lamp_98 (fun s17 es17 H locs hS => ?_)
          have h := h s17 es17
          refine lv_iload_n hx hb dX3_lamp_101 rfl (lv_at hl 0 rfl) ?_
          refine gcut (P := ∀ (v19 : Int32) (H : Heap) (locs : List Loc) (ls : Array Slot), v19 = (if r8 = 0 then 0 else 1) → gSt (MWd g) (MA g) s s17 H locs → lv_has ls 4 [] → W p l e rM_lamp s m args below meth c H locs 0 0 (MQ below (va_Qi post (gB (MWd g)) (MA g)) args s 0 0 (MA g)) (F0 m 110 ls [.int v19])) (fun v19 H locs ls ev19 hS hl => ?_) (fun J20 => ?_)
          · have h := h v19 ev19
            exact gw_iret F hS h dX3_lamp_110
          · refine lv_if_eq (tgt := 109) hx hb dX3_lamp_102 (by decide) (fun c18 => ?_) (fun c18 => ?_)
            · refine lv_iconst (v := 0) hx hb dX3_lamp_109 (by decide) ?_
              exact J20 _ H locs ls (by first | with_reducible rfl | ((try rw [if_pos c18]); done)) hS (lv_sub hl [] rfl)
            · refine lv_iconst (v := 1) hx hb dX3_lamp_105 (by decide) ?_
              refine lv_goto (tgt := 110) hx hb dX3_lamp_106 (by decide) ?_
              exact J20 _ H locs ls (by first | with_reducible rfl | ((try rw [if_neg c18]); done)) hS (lv_sub hl [] rfl)
        · have h := h.2 c10
          refine lv_bipush (v := (-3)) hx hb dX3_lamp_55 (by decide) ?_
          exact gw_iret F hS h dX3_lamp_57
      · have h := h.2 c9
        refine lv_iload_n hx hb dX3_lamp_36 rfl (lv_at hl 0 rfl) ?_
        refine gcut (P := ∀ (v22 : Int32) (H : Heap) (locs : List Loc) (ls : Array Slot), v22 = (if r8 = 0 then 0 else 1) → gSt (MWd g) (MA g) s s7 H locs → lv_has ls 4 [] → W p l e rM_lamp s m args below meth c H locs 0 0 (MQ below (va_Qi post (gB (MWd g)) (MA g)) args s 0 0 (MA g)) (F0 m 45 ls [.int v22])) (fun v22 H locs ls ev22 hS hl => ?_) (fun J23 => ?_)
        · have h := h v22 ev22
          exact gw_iret F hS h dX3_lamp_45
        · refine lv_if_eq (tgt := 44) hx hb dX3_lamp_37 (by decide) (fun c21 => ?_) (fun c21 => ?_)
          · refine lv_iconst (v := 0) hx hb dX3_lamp_44 (by decide) ?_
            exact J23 _ H locs ls (by first | with_reducible rfl | ((try rw [if_pos c21]); done)) hS (lv_sub hl [] rfl)
          · refine lv_iconst (v := 1) hx hb dX3_lamp_40 (by decide) ?_
            refine lv_goto (tgt := 45) hx hb dX3_lamp_41 (by decide) ?_
            exact J23 _ H locs ls (by first | with_reducible rfl | ((try rw [if_neg c21]); done)) hS (lv_sub hl [] rfl)
    · have h := h.2 c6
      refine lv_bipush (v := (-12)) hx hb dX3_lamp_18 (by decide) ?_
      exact gw_iret F hS h dX3_lamp_20
  · have h := h.2 c3
    refine lv_iconst (v := (-1)) hx hb dX3_lamp_8 (by decide) ?_
    exact gw_iret F hS h dX3_lamp_9
set_option maxHeartbeats 4000000 in
set_option maxRecDepth 100000 in
theorem tM_lamp (l : Launch) (g : MG) (hO : MOK g) (σ : MS) (a1 : Int32) (a2 : Int32) (post : Int32 → MS → Prop) (h : wM_lamp post σ a1 a2) : Met l yX3_lamp (ws_ yX3_lamp cX3_lamp 4 (some .int)) rM_lamp (va_Pc [.ref (mad g 62), .int a1, .int a2] (gPre (MWd g) (mD g) (mcl g) (mty g) σ)) (va_Qi post (gB (MWd g)) (MA g)) 0 0 (MA g) := by
  refine Met.ofW (cc := cX3_lamp) (maxL := 4) (ret := (some .int)) (by decide) rfl ?_
  intro p e s m args below meth c s₁ B hml hv
  obtain ⟨rfl, hW, hK⟩ := hv
  have hts := atoms_spec (ws := (ws_ yX3_lamp cX3_lamp 4 (some .int))) B.pre
  have hts : ∀ w ∈ lw_all, w.before _ s = true := fun w h => hts w (List.mem_cons_of_mem _ h)
  have hl := lv_entry ([.ref (mad g 62), .int a1, .int a2]) (n := 4) (Nat.le_of_ble_eq_true rfl)
  rw [lg_entry_eq]
  generalize (lg_sl ([.ref (mad g 62), .int a1, .int a2]) ++ List.replicate (4 - (lg_sl ([.ref (mad g 62), .int a1, .int a2])).length) Slot.unset).toArray = ls at hl ⊢
  exact kM_lamp ⟨⟨B.exec, B.bytes, hml, findClass_of_methodNamed B.named, hts⟩, hK, B.returns, B.notSynchronized⟩ hO σ a1 a2 s.heap [] ls ⟨hW, va_S.rf⟩ hl h
def wM_watch (post : Int32 → MS → Prop) (σ : MS) (a1 : Int32) (a2 : Int32) : Prop := wM_isPlace (fun r2 s1 => (¬ (r2 = 0) → wM_isHouse (fun r5 s4 => (¬ (r5 = 0) → (vp_in a1 16 ∧ ∀ x8 : Int32, x8 = s4 9 a1.toNatClampNeg → (vp_in a1 16 ∧ bz a2) ∧ ∀ s9 : MS, s9 = up2 s4 9 a1.toNatClampNeg a2 → (∀ v12 : Int32, v12 = (if x8 = 0 then 0 else 1) → post v12 s9))) ∧ (r5 = 0 → post (-12) s4)) s1 a1) ∧ (r2 = 0 → post (-1) s1)) σ a1
abbrev rM_watch : Room := { frames := 2, cells := 0, slots := 0, locals := 46 }
set_option maxHeartbeats 4000000 in
set_option maxRecDepth 100000 in
theorem kM_watch {p : Program} {l : Launch} {e : Env} {s : State} {m : MethodId} {args : Array Value} {below : List Frame} {meth : Method} {c : Code} {g : MG} {post : Int32 → MS → Prop} (F : gFx p s m c meth args cX3_watch 4 RX3 (some .int) (mD g) (mcl g) (mty g)) (hO : MOK g) (σ : MS) (a1 : Int32) (a2 : Int32) (H : Heap) (locs : List Loc) (ls : Array Slot) (hS : gSt (MWd g) (MA g) s σ H locs) (hl : lv_has ls 4 [(0, .ref (mad g 62)), (1, .int a1), (2, .int a2)]) (h : wM_watch post σ a1 a2) : W p l e rM_watch s m args below meth c H locs 0 0 (MQ below (va_Qi post (gB (MWd g)) (MA g)) args s 0 0 (MA g)) (F0 m 0 ls []) := by
  have hx := F.hx
  have hb := F.hb
  have hts := F.1.2.2.2.2
  have hown := F.1.2.2.2.1
  rw [wM_watch] at h
  refine lv_aload_n hx hb dX3_watch_0 rfl (lv_at hl 0 rfl) ?_
  refine lv_iload_n hx hb dX3_watch_1 rfl (lv_at hl 1 rfl) ?_
  refine gw_callVi (As := [.int a1]) (rest := []) F hS (tM_isPlace l g hO σ a1 _ h) (cwV 1 hts (lw_V q1618 q1620 qs40 q90 q1621) rfl rfl rfl (by decide +kernel) ⟨Nat.le_of_ble_eq_true rfl, Nat.le_of_ble_eq_true rfl⟩) (m_rec F hO hS) rfl hl.1 rfl (Nat.le_of_ble_eq_true rfl) dX3_watch_2 ⟨Nat.le_refl 0, Nat.le_refl 0⟩ (fun r2 s1 H locs h hS => ?_)
  obtain ⟨zr2, h⟩ := h
  refine lv_if_ne (tgt := 10) hx hb dX3_watch_5 (by decide) (fun c3 => ?_) (fun c3 => ?_)
  · have h := h.1 c3
    refine lv_aload_n hx hb dX3_watch_10 rfl (lv_at hl 0 rfl) ?_
    refine lv_iload_n hx hb dX3_watch_11 rfl (lv_at hl 1 rfl) ?_
    refine gw_callVi (As := [.int a1]) (rest := []) F hS (tM_isHouse l g hO s1 a1 _ h) (cwV 1 hts (lw_V q1634 q1636 qs42 q90 q1637) rfl rfl rfl (by decide +kernel) ⟨Nat.le_of_ble_eq_true rfl, Nat.le_of_ble_eq_true rfl⟩) (m_rec F hO hS) rfl hl.1 rfl (Nat.le_of_ble_eq_true rfl) dX3_watch_12 ⟨Nat.le_refl 0, Nat.le_refl 0⟩ (fun r5 s4 H locs h hS => ?_)
    obtain ⟨zr5, h⟩ := h
    refine lv_if_ne (tgt := 21) hx hb dX3_watch_15 (by decide) (fun c6 => ?_) (fun c6 => ?_)
    · have h := h.1 c6
      refine lv_aload_n hx hb dX3_watch_21 rfl (lv_at hl 0 rfl) ?_
      refine m_geta F hO hS 9 (by decide) rfl q1406 dX3_watch_22 ?_
      refine lv_iload_n hx hb dX3_watch_25 rfl (lv_at hl 1 rfl) ?_
      obtain ⟨b7, h⟩ := h
      refine m_zald F hS 9 7 rfl rfl b7 dX3_watch_26 ?_
      refine lv_topi (fun x8 ex8 => ?_)
      have h := h x8 ex8
      refine lv_istore_n (lv' := [(3, .int x8), (0, .ref (mad g 62)), (1, .int a1), (2, .int a2)]) hx hb dX3_watch_27 rfl hl (by decide) rfl (fun ls hl => ?_)
      refine lv_aload_n hx hb dX3_watch_28 rfl (lv_at hl 1 rfl) ?_
      refine m_geta F hO hS 9 (by decide) rfl q1406 dX3_watch_29 ?_
      refine lv_iload_n hx hb dX3_watch_32 rfl (lv_at hl 2 rfl) ?_
      refine lv_iload_n hx hb dX3_watch_33 rfl (lv_at hl 3 rfl) ?_
      obtain ⟨b10, h⟩ := h
      refine m_zast F hO hS 9 7 rfl rfl b10.1 b10.2 dX3_watch_34 (fun s9 es9 H locs hS => ?_)
      have h := h s9 es9
      refine lv_iload_n hx hb dX3_watch_35 rfl (lv_at hl 0 rfl) ?_
      refine gcut (P := ∀ (v12 : Int32) (H : Heap) (locs : List Loc) (ls : Array Slot), v12 = (if x8 = 0 then 0 else 1) → gSt (MWd g) (MA g) s s9 H locs → lv_has ls 4 [] → W p l e rM_watch s m args below meth c H locs 0 0 (MQ below (va_Qi post (gB (MWd g)) (MA g)) args s 0 0 (MA g)) (F0 m 44 ls [.int v12])) (fun v12 H locs ls ev12 hS hl => ?_) (fun J13 => ?_)
      · have h := h v12 ev12
        exact gw_iret F hS h dX3_watch_44
      · refine lv_if_eq (tgt := 43) hx hb dX3_watch_36 (by decide) (fun c11 => ?_) (fun c11 => ?_)
        · refine lv_iconst (v := 0) hx hb dX3_watch_43 (by decide) ?_
          exact J13 _ H locs ls (by first | with_reducible rfl | ((try rw [if_pos c11]); done)) hS (lv_sub hl [] rfl)
        · refine lv_iconst (v := 1) hx hb dX3_watch_39 (by decide) ?_
          refine lv_goto (tgt := 44) hx hb dX3_watch_40 (by decide) ?_
          exact J13 _ H locs ls (by first | with_reducible rfl | ((try rw [if_neg c11]); done)) hS (lv_sub hl [] rfl)
    · have h := h.2 c6
      refine lv_bipush (v := (-12)) hx hb dX3_watch_18 (by decide) ?_
      exact gw_iret F hS h dX3_watch_20
  · have h := h.2 c3
    refine lv_iconst (v := (-1)) hx hb dX3_watch_8 (by decide) ?_
    exact gw_iret F hS h dX3_watch_9
set_option maxHeartbeats 4000000 in
set_option maxRecDepth 100000 in
theorem tM_watch (l : Launch) (g : MG) (hO : MOK g) (σ : MS) (a1 : Int32) (a2 : Int32) (post : Int32 → MS → Prop) (h : wM_watch post σ a1 a2) : Met l yX3_watch (ws_ yX3_watch cX3_watch 4 (some .int)) rM_watch (va_Pc [.ref (mad g 62), .int a1, .int a2] (gPre (MWd g) (mD g) (mcl g) (mty g) σ)) (va_Qi post (gB (MWd g)) (MA g)) 0 0 (MA g) := by
  refine Met.ofW (cc := cX3_watch) (maxL := 4) (ret := (some .int)) (by decide) rfl ?_
  intro p e s m args below meth c s₁ B hml hv
  obtain ⟨rfl, hW, hK⟩ := hv
  have hts := atoms_spec (ws := (ws_ yX3_watch cX3_watch 4 (some .int))) B.pre
  have hts : ∀ w ∈ lw_all, w.before _ s = true := fun w h => hts w (List.mem_cons_of_mem _ h)
  have hl := lv_entry ([.ref (mad g 62), .int a1, .int a2]) (n := 4) (Nat.le_of_ble_eq_true rfl)
  rw [lg_entry_eq]
  generalize (lg_sl ([.ref (mad g 62), .int a1, .int a2]) ++ List.replicate (4 - (lg_sl ([.ref (mad g 62), .int a1, .int a2])).length) Slot.unset).toArray = ls at hl ⊢
  exact kM_watch ⟨⟨B.exec, B.bytes, hml, findClass_of_methodNamed B.named, hts⟩, hK, B.returns, B.notSynchronized⟩ hO σ a1 a2 s.heap [] ls ⟨hW, va_S.rf⟩ hl h
def wM_bears (post : Int32 → MS → Prop) (σ : MS) (a1 : Int32) (a2 : Int32) (a3 : Int32) : Prop := wM_isPlace (fun r2 s1 => (r2 = 0 → post (-1) s1) ∧ (¬ (r2 = 0) → wM_in (fun r5 s4 => (¬ (r5 = 0) → (vp_in a1 16 ∧ ((s4 2 a1.toNatClampNeg) = 3 → (vp_in (((50 : Int32) * a1) + a2) 800 ∧ ∀ x10 : Int32, x10 = s4 10 (((50 : Int32) * a1) + a2).toNatClampNeg → (vp_in (((50 : Int32) * a1) + a2) 800 ∧ bz a3) ∧ ∀ s11 : MS, s11 = up2 s4 10 (((50 : Int32) * a1) + a2).toNatClampNeg a3 → (∀ v14 : Int32, v14 = (if x10 = 0 then 0 else 1) → post v14 s11))) ∧ (¬ ((s4 2 a1.toNatClampNeg) = 3) → post (-12) s4))) ∧ (r5 = 0 → post (-1) s4)) s1 a2.toInt64 0 49)) σ a1
abbrev rM_bears : Room := { frames := 2, cells := 0, slots := 0, locals := 46 }
set_option maxHeartbeats 4000000 in
set_option maxRecDepth 100000 in
theorem kM_bears {p : Program} {l : Launch} {e : Env} {s : State} {m : MethodId} {args : Array Value} {below : List Frame} {meth : Method} {c : Code} {g : MG} {post : Int32 → MS → Prop} (F : gFx p s m c meth args cX3_bears 5 RX3 (some .int) (mD g) (mcl g) (mty g)) (hO : MOK g) (σ : MS) (a1 : Int32) (a2 : Int32) (a3 : Int32) (H : Heap) (locs : List Loc) (ls : Array Slot) (hS : gSt (MWd g) (MA g) s σ H locs) (hl : lv_has ls 5 [(0, .ref (mad g 62)), (1, .int a1), (2, .int a2), (3, .int a3)]) (h : wM_bears post σ a1 a2 a3) : W p l e rM_bears s m args below meth c H locs 0 0 (MQ below (va_Qi post (gB (MWd g)) (MA g)) args s 0 0 (MA g)) (F0 m 0 ls []) := by
  have hx := F.hx
  have hb := F.hb
  have hts := F.1.2.2.2.2
  have hown := F.1.2.2.2.1
  rw [wM_bears] at h
  refine lv_aload_n hx hb dX3_bears_0 rfl (lv_at hl 0 rfl) ?_
  refine lv_iload_n hx hb dX3_bears_1 rfl (lv_at hl 1 rfl) ?_
  refine gw_callVi (As := [.int a1]) (rest := []) F hS (tM_isPlace l g hO σ a1 _ h) (cwV 1 hts (lw_V q1618 q1620 qs40 q90 q1621) rfl rfl rfl (by decide +kernel) ⟨Nat.le_of_ble_eq_true rfl, Nat.le_of_ble_eq_true rfl⟩) (m_rec F hO hS) rfl hl.1 rfl (Nat.le_of_ble_eq_true rfl) dX3_bears_2 ⟨Nat.le_refl 0, Nat.le_refl 0⟩ (fun r2 s1 H locs h hS => ?_)
  obtain ⟨zr2, h⟩ := h
  refine lv_if_eq (tgt := 20) hx hb dX3_bears_5 (by decide) (fun c3 => ?_) (fun c3 => ?_)
  · have h := h.1 c3
    refine lv_iconst (v := (-1)) hx hb dX3_bears_20 (by decide) ?_
    exact gw_iret F hS h dX3_bears_21
  · have h := h.2 c3
    refine lv_iload_n hx hb dX3_bears_8 rfl (lv_at hl 2 rfl) ?_
    refine lv_i2l hx hb dX3_bears_9 rfl ?_
    refine lv_lconst (v := 0) hx hb dX3_bears_10 (by decide) ?_
    refine lv_ldc2 (v := 49) hx hb hown (hts _ q1654) dX3_bears_11 ?_
    refine gw_callSi (As := [.long a2.toInt64, .long 0, .long 49]) (rest := []) F hS (tM_in l g hO s1 a2.toInt64 0 49 _ h) (va_cwS 3 hts (lw_S q1593 q1594 q90 q1595) rfl rfl rfl (by decide +kernel) ⟨Nat.le_of_ble_eq_true rfl, Nat.le_of_ble_eq_true rfl⟩) rfl hl.1 rfl (Nat.le_of_ble_eq_true rfl) dX3_bears_14 ⟨Nat.le_refl 0, Nat.le_refl 0⟩ (fun r5 s4 H locs h hS => ?_)
    obtain ⟨zr5, h⟩ := h
    refine lv_if_ne (tgt := 22) hx hb dX3_bears_17 (by decide) (fun c6 => ?_) (fun c6 => ?_)
    · have h := h.1 c6
      refine lv_aload_n hx hb dX3_bears_22 rfl (lv_at hl 0 rfl) ?_
      refine m_geta F hO hS 2 (by decide) rfl q1399 dX3_bears_23 ?_
      refine lv_iload_n hx hb dX3_bears_26 rfl (lv_at hl 1 rfl) ?_
      obtain ⟨b7, h⟩ := h
      refine m_iald F hS 2 0 rfl rfl b7 dX3_bears_27 ?_
      refine lv_iconst (v := 3) hx hb dX3_bears_28 (by decide) ?_
      refine lv_icmp_eq (tgt := 35) hx hb dX3_bears_29 (by decide) (fun c8 => ?_) (fun c8 => ?_)
      · have h := h.1 c8
        refine lv_aload_n hx hb dX3_bears_35 rfl (lv_at hl 0 rfl) ?_
        refine m_geta F hO hS 10 (by decide) rfl q1407 dX3_bears_36 ?_
        refine lv_bipush (v := 50) hx hb dX3_bears_39 (by decide) ?_
        refine lv_iload_n hx hb dX3_bears_41 rfl (lv_at hl 1 rfl) ?_
        refine lv_imul hx hb dX3_bears_42 ?_
        refine lv_iload_n hx hb dX3_bears_43 rfl (lv_at hl 2 rfl) ?_
        refine lv_iadd hx hb dX3_bears_44 ?_
        obtain ⟨b9, h⟩ := h
        refine m_zald F hS 10 8 rfl rfl b9 dX3_bears_45 ?_
        refine lv_topi (fun x10 ex10 => ?_)
        have h := h x10 ex10
        refine lv_istore (lv' := [(4, .int x10), (0, .ref (mad g 62)), (1, .int a1), (2, .int a2), (3, .int a3)]) hx hb dX3_bears_46 hl (by decide) rfl (fun ls hl => ?_)
        refine lv_aload_n hx hb dX3_bears_48 rfl (lv_at hl 1 rfl) ?_
        refine m_geta F hO hS 10 (by decide) rfl q1407 dX3_bears_49 ?_
        refine lv_bipush (v := 50) hx hb dX3_bears_52 (by decide) ?_
        refine lv_iload_n hx hb dX3_bears_54 rfl (lv_at hl 2 rfl) ?_
        refine lv_imul hx hb dX3_bears_55 ?_
        refine lv_iload_n hx hb dX3_bears_56 rfl (lv_at hl 3 rfl) ?_
        refine lv_iadd hx hb dX3_bears_57 ?_
        refine lv_iload_n hx hb dX3_bears_58 rfl (lv_at hl 4 rfl) ?_
        obtain ⟨b12, h⟩ := h
        refine m_zast F hO hS 10 8 rfl rfl b12.1 b12.2 dX3_bears_59 (fun s11 es11 H locs hS => ?_)
        have h := h s11 es11
        refine lv_iload hx hb dX3_bears_60 (lv_at hl 0 rfl) ?_
        refine gcut (P := ∀ (v14 : Int32) (H : Heap) (locs : List Loc) (ls : Array Slot), v14 = (if x10 = 0 then 0 else 1) → gSt (MWd g) (MA g) s s11 H locs → lv_has ls 5 [] → W p l e rM_bears s m args below meth c H locs 0 0 (MQ below (va_Qi post (gB (MWd g)) (MA g)) args s 0 0 (MA g)) (F0 m 70 ls [.int v14])) (fun v14 H locs ls ev14 hS hl => ?_) (fun J15 => ?_)
        · have h := h v14 ev14
          exact gw_iret F hS h dX3_bears_70
        · refine lv_if_eq (tgt := 69) hx hb dX3_bears_62 (by decide) (fun c13 => ?_) (fun c13 => ?_)
          · refine lv_iconst (v := 0) hx hb dX3_bears_69 (by decide) ?_
            exact J15 _ H locs ls (by first | with_reducible rfl | ((try rw [if_pos c13]); done)) hS (lv_sub hl [] rfl)
          · refine lv_iconst (v := 1) hx hb dX3_bears_65 (by decide) ?_
            refine lv_goto (tgt := 70) hx hb dX3_bears_66 (by decide) ?_
            exact J15 _ H locs ls (by first | with_reducible rfl | ((try rw [if_neg c13]); done)) hS (lv_sub hl [] rfl)
      · have h := h.2 c8
        refine lv_bipush (v := (-12)) hx hb dX3_bears_32 (by decide) ?_
        exact gw_iret F hS h dX3_bears_34
    · have h := h.2 c6
      refine lv_iconst (v := (-1)) hx hb dX3_bears_20 (by decide) ?_
      exact gw_iret F hS h dX3_bears_21
set_option maxHeartbeats 4000000 in
set_option maxRecDepth 100000 in
theorem tM_bears (l : Launch) (g : MG) (hO : MOK g) (σ : MS) (a1 : Int32) (a2 : Int32) (a3 : Int32) (post : Int32 → MS → Prop) (h : wM_bears post σ a1 a2 a3) : Met l yX3_bears (ws_ yX3_bears cX3_bears 5 (some .int)) rM_bears (va_Pc [.ref (mad g 62), .int a1, .int a2, .int a3] (gPre (MWd g) (mD g) (mcl g) (mty g) σ)) (va_Qi post (gB (MWd g)) (MA g)) 0 0 (MA g) := by
  refine Met.ofW (cc := cX3_bears) (maxL := 5) (ret := (some .int)) (by decide) rfl ?_
  intro p e s m args below meth c s₁ B hml hv
  obtain ⟨rfl, hW, hK⟩ := hv
  have hts := atoms_spec (ws := (ws_ yX3_bears cX3_bears 5 (some .int))) B.pre
  have hts : ∀ w ∈ lw_all, w.before _ s = true := fun w h => hts w (List.mem_cons_of_mem _ h)
  have hl := lv_entry ([.ref (mad g 62), .int a1, .int a2, .int a3]) (n := 5) (Nat.le_of_ble_eq_true rfl)
  rw [lg_entry_eq]
  generalize (lg_sl ([.ref (mad g 62), .int a1, .int a2, .int a3]) ++ List.replicate (5 - (lg_sl ([.ref (mad g 62), .int a1, .int a2, .int a3])).length) Slot.unset).toArray = ls at hl ⊢
  exact kM_bears ⟨⟨B.exec, B.bytes, hml, findClass_of_methodNamed B.named, hts⟩, hK, B.returns, B.notSynchronized⟩ hO σ a1 a2 a3 s.heap [] ls ⟨hW, va_S.rf⟩ hl h
def wM_isSheet (post : Int32 → MS → Prop) (σ : MS) (a0 : Int32) : Prop := wM_in (fun r2 s1 => post r2 s1) σ a0.toInt64 0 3
abbrev rM_isSheet : Room := { frames := 1, cells := 0, slots := 0, locals := 25 }
set_option maxHeartbeats 4000000 in
set_option maxRecDepth 100000 in
theorem kM_isSheet {p : Program} {l : Launch} {e : Env} {s : State} {m : MethodId} {args : Array Value} {below : List Frame} {meth : Method} {c : Code} {g : MG} {post : Int32 → MS → Prop} (F : gFx p s m c meth args cX3_isSheet 1 RX3 (some .boolean) (mD g) (mcl g) (mty g)) (hO : MOK g) (σ : MS) (a0 : Int32) (H : Heap) (locs : List Loc) (ls : Array Slot) (hS : gSt (MWd g) (MA g) s σ H locs) (hl : lv_has ls 1 [(0, .int a0)]) (h : wM_isSheet post σ a0) : W p l e rM_isSheet s m args below meth c H locs 0 0 (MQ below (va_Qi (zpost post) (gB (MWd g)) (MA g)) args s 0 0 (MA g)) (F0 m 0 ls []) := by
  have hx := F.hx
  have hb := F.hb
  have hts := F.1.2.2.2.2
  have hown := F.1.2.2.2.1
  rw [wM_isSheet] at h
  refine lv_iload_n hx hb dX3_isSheet_0 rfl (lv_at hl 0 rfl) ?_
  refine lv_i2l hx hb dX3_isSheet_1 rfl ?_
  refine lv_lconst (v := 0) hx hb dX3_isSheet_2 (by decide) ?_
  refine lv_ldc2 (v := 3) hx hb hown (hts _ q1592) dX3_isSheet_3 ?_
  refine gw_callSi (As := [.long a0.toInt64, .long 0, .long 3]) (rest := []) F hS (tM_in l g hO σ a0.toInt64 0 3 _ h) (va_cwS 3 hts (lw_S q1593 q1594 q90 q1595) rfl rfl rfl (by decide +kernel) ⟨Nat.le_of_ble_eq_true rfl, Nat.le_of_ble_eq_true rfl⟩) rfl hl.1 rfl (Nat.le_of_ble_eq_true rfl) dX3_isSheet_6 ⟨Nat.le_refl 0, Nat.le_refl 0⟩ (fun r2 s1 H locs h hS => ?_)
  obtain ⟨zr2, h⟩ := h
  exact gw_zret F hS zr2 h dX3_isSheet_9
set_option maxHeartbeats 4000000 in
set_option maxRecDepth 100000 in
theorem tM_isSheet (l : Launch) (g : MG) (hO : MOK g) (σ : MS) (a0 : Int32) (post : Int32 → MS → Prop) (h : wM_isSheet post σ a0) : Met l yX3_isSheet (ws_ yX3_isSheet cX3_isSheet 1 (some .boolean)) rM_isSheet (va_Pc [.int a0] (gPre (MWd g) (mD g) (mcl g) (mty g) σ)) (va_Qi (zpost post) (gB (MWd g)) (MA g)) 0 0 (MA g) := by
  refine Met.ofW (cc := cX3_isSheet) (maxL := 1) (ret := (some .boolean)) (by decide) rfl ?_
  intro p e s m args below meth c s₁ B hml hv
  obtain ⟨rfl, hW, hK⟩ := hv
  have hts := atoms_spec (ws := (ws_ yX3_isSheet cX3_isSheet 1 (some .boolean))) B.pre
  have hts : ∀ w ∈ lw_all, w.before _ s = true := fun w h => hts w (List.mem_cons_of_mem _ h)
  have hl := lv_entry ([.int a0]) (n := 1) (Nat.le_of_ble_eq_true rfl)
  rw [lg_entry_eq]
  generalize (lg_sl ([.int a0]) ++ List.replicate (1 - (lg_sl ([.int a0])).length) Slot.unset).toArray = ls at hl ⊢
  exact kM_isSheet ⟨⟨B.exec, B.bytes, hml, findClass_of_methodNamed B.named, hts⟩, hK, B.returns, B.notSynchronized⟩ hO σ a0 s.heap [] ls ⟨hW, va_S.rf⟩ hl h
def wM_finds (post : Int32 → MS → Prop) (σ : MS) (a1 : Int32) (a2 : Int32) (a3 : Int32) (a4 : Int32) : Prop := (vp_in a1 4 ∧ (0 ≤ (σ 58 a1.toNatClampNeg) → (vp_in a1 4 ∧ ((σ 58 a1.toNatClampNeg) = a2 → (((¬ (a3 < 0) → vp_in a1 4)) ∧ ∀ v7 : Int32, v7 = (if a3 < 0 then (-13) else if (lg_cmp (a3.toInt64 + a4.toInt64) ((σ 59 a1.toNatClampNeg).toInt64)) ≤ 0 then 0 else (-13)) → post v7 σ)) ∧ (¬ ((σ 58 a1.toNatClampNeg) = a2) → post (-12) σ))) ∧ (¬ (0 ≤ (σ 58 a1.toNatClampNeg)) → post (-11) σ))
abbrev rM_finds : Room := { frames := 0, cells := 0, slots := 0, locals := 0 }
set_option maxHeartbeats 4000000 in
set_option maxRecDepth 100000 in
theorem kM_finds {p : Program} {l : Launch} {e : Env} {s : State} {m : MethodId} {args : Array Value} {below : List Frame} {meth : Method} {c : Code} {g : MG} {post : Int32 → MS → Prop} (F : gFx p s m c meth args cX3_finds 5 RX3 (some .int) (mD g) (mcl g) (mty g)) (hO : MOK g) (σ : MS) (a1 : Int32) (a2 : Int32) (a3 : Int32) (a4 : Int32) (H : Heap) (locs : List Loc) (ls : Array Slot) (hS : gSt (MWd g) (MA g) s σ H locs) (hl : lv_has ls 5 [(0, .ref (mad g 62)), (1, .int a1), (2, .int a2), (3, .int a3), (4, .int a4)]) (h : wM_finds post σ a1 a2 a3 a4) : W p l e rM_finds s m args below meth c H locs 0 0 (MQ below (va_Qi post (gB (MWd g)) (MA g)) args s 0 0 (MA g)) (F0 m 0 ls []) := by
  have hx := F.hx
  have hb := F.hb
  have hts := F.1.2.2.2.2
  have hown := F.1.2.2.2.1
  rw [wM_finds] at h
  refine lv_aload_n hx hb dX3_finds_0 rfl (lv_at hl 0 rfl) ?_
  refine m_geta F hO hS 58 (by decide) rfl q1455 dX3_finds_1 ?_
  refine lv_iload_n hx hb dX3_finds_4 rfl (lv_at hl 1 rfl) ?_
  obtain ⟨b1, h⟩ := h
  refine m_iald F hS 58 45 rfl rfl b1 dX3_finds_5 ?_
  refine lv_if_ge (tgt := 12) hx hb dX3_finds_6 (by decide) (fun c2 => ?_) (fun c2 => ?_)
  · have h := h.1 c2
    refine lv_aload_n hx hb dX3_finds_12 rfl (lv_at hl 0 rfl) ?_
    refine m_geta F hO hS 58 (by decide) rfl q1455 dX3_finds_13 ?_
    refine lv_iload_n hx hb dX3_finds_16 rfl (lv_at hl 1 rfl) ?_
    obtain ⟨b3, h⟩ := h
    refine m_iald F hS 58 45 rfl rfl b3 dX3_finds_17 ?_
    refine lv_iload_n hx hb dX3_finds_18 rfl (lv_at hl 2 rfl) ?_
    refine lv_icmp_eq (tgt := 25) hx hb dX3_finds_19 (by decide) (fun c4 => ?_) (fun c4 => ?_)
    · have h := h.1 c4
      refine lv_iload_n hx hb dX3_finds_25 rfl (lv_at hl 3 rfl) ?_
      obtain ⟨b8, h⟩ := h
      refine gcut (P := ∀ (v7 : Int32) (H : Heap) (locs : List Loc) (ls : Array Slot), v7 = (if a3 < 0 then (-13) else if (lg_cmp (a3.toInt64 + a4.toInt64) ((σ 59 a1.toNatClampNeg).toInt64)) ≤ 0 then 0 else (-13)) → gSt (MWd g) (MA g) s σ H locs → lv_has ls 5 [] → W p l e rM_finds s m args below meth c H locs 0 0 (MQ below (va_Qi post (gB (MWd g)) (MA g)) args s 0 0 (MA g)) (F0 m 52 ls [.int v7])) (fun v7 H locs ls ev7 hS hl => ?_) (fun J9 => ?_)
      · have h := h v7 ev7
        exact gw_iret F hS h dX3_finds_52
      · refine lv_if_lt (tgt := 46) hx hb dX3_finds_26 (by decide) (fun c5 => ?_) (fun c5 => ?_)
        · refine lv_bipush (v := (-13)) hx hb dX3_finds_46 (by decide) ?_
          refine lv_goto (tgt := 52) hx hb dX3_finds_48 (by decide) ?_
          exact J9 _ H locs ls (by first | with_reducible rfl | ((try rw [if_pos c5]); done)) hS (lv_sub hl [] rfl)
        · refine lv_iload_n hx hb dX3_finds_29 rfl (lv_at hl 3 rfl) ?_
          refine lv_i2l hx hb dX3_finds_30 rfl ?_
          refine lv_iload hx hb dX3_finds_31 (lv_at hl 4 rfl) ?_
          refine lv_i2l hx hb dX3_finds_33 rfl ?_
          refine lv_ladd hx hb dX3_finds_34 ?_
          refine lv_aload_n hx hb dX3_finds_35 rfl (lv_at hl 0 rfl) ?_
          refine m_geta F hO hS 59 (by decide) rfl q1456 dX3_finds_36 ?_
          refine lv_iload_n hx hb dX3_finds_39 rfl (lv_at hl 1 rfl) ?_
          refine m_iald F hS 59 46 rfl rfl ((b8 c5)) dX3_finds_40 ?_
          refine lv_i2l hx hb dX3_finds_41 rfl ?_
          refine W.lcmp hx hb dX3_finds_42 ?_
          refine lv_if_le (tgt := 51) hx hb dX3_finds_43 (by decide) (fun c6 => ?_) (fun c6 => ?_)
          · refine lv_iconst (v := 0) hx hb dX3_finds_51 (by decide) ?_
            exact J9 _ H locs ls (by first | with_reducible rfl | ((try rw [if_neg c5]); (try rw [if_pos c6]); done)) hS (lv_sub hl [] rfl)
          · refine lv_bipush (v := (-13)) hx hb dX3_finds_46 (by decide) ?_
            refine lv_goto (tgt := 52) hx hb dX3_finds_48 (by decide) ?_
            exact J9 _ H locs ls (by first | with_reducible rfl | ((try rw [if_neg c5]); (try rw [if_neg c6]); done)) hS (lv_sub hl [] rfl)
    · have h := h.2 c4
      refine lv_bipush (v := (-12)) hx hb dX3_finds_22 (by decide) ?_
      exact gw_iret F hS h dX3_finds_24
  · have h := h.2 c2
    refine lv_bipush (v := (-11)) hx hb dX3_finds_9 (by decide) ?_
    exact gw_iret F hS h dX3_finds_11
set_option maxHeartbeats 4000000 in
set_option maxRecDepth 100000 in
theorem tM_finds (l : Launch) (g : MG) (hO : MOK g) (σ : MS) (a1 : Int32) (a2 : Int32) (a3 : Int32) (a4 : Int32) (post : Int32 → MS → Prop) (h : wM_finds post σ a1 a2 a3 a4) : Met l yX3_finds (ws_ yX3_finds cX3_finds 5 (some .int)) rM_finds (va_Pc [.ref (mad g 62), .int a1, .int a2, .int a3, .int a4] (gPre (MWd g) (mD g) (mcl g) (mty g) σ)) (va_Qi post (gB (MWd g)) (MA g)) 0 0 (MA g) := by
  refine Met.ofW (cc := cX3_finds) (maxL := 5) (ret := (some .int)) (by decide) rfl ?_
  intro p e s m args below meth c s₁ B hml hv
  obtain ⟨rfl, hW, hK⟩ := hv
  have hts := atoms_spec (ws := (ws_ yX3_finds cX3_finds 5 (some .int))) B.pre
  have hts : ∀ w ∈ lw_all, w.before _ s = true := fun w h => hts w (List.mem_cons_of_mem _ h)
  have hl := lv_entry ([.ref (mad g 62), .int a1, .int a2, .int a3, .int a4]) (n := 5) (Nat.le_of_ble_eq_true rfl)
  rw [lg_entry_eq]
  generalize (lg_sl ([.ref (mad g 62), .int a1, .int a2, .int a3, .int a4]) ++ List.replicate (5 - (lg_sl ([.ref (mad g 62), .int a1, .int a2, .int a3, .int a4])).length) Slot.unset).toArray = ls at hl ⊢
  exact kM_finds ⟨⟨B.exec, B.bytes, hml, findClass_of_methodNamed B.named, hts⟩, hK, B.returns, B.notSynchronized⟩ hO σ a1 a2 a3 a4 s.heap [] ls ⟨hW, va_S.rf⟩ hl h
def wM_ice_L80 (post : Int32 → MS → Prop) : Nat → MS → Int32 → Int32 → Int32 → Int32 → Int32 → Int32 → Prop
  | 0, _, _, _, _, _, _, _ => False
  | n + 1, σ, x18, x19, x20, x21, x22, x23 => (x22 ≤ x23 → post x22 σ) ∧ (¬ (x22 ≤ x23) → (vp_in ((((50 : Int32) * x20) + x21) + x23) 200 ∧ (∀ v27 : Int32, v27 = (if (σ 60 ((((50 : Int32) * x20) + x21) + x23).toNatClampNeg) = 0 then 0 else 1) → (vp_in ((((50 : Int32) * x18) + x19) + x23) 800 ∧ ∀ s29 : MS, s29 = up2 σ 10 ((((50 : Int32) * x18) + x19) + x23).toNatClampNeg v27 → ∀ x31 : Int32, x31 = x23 + 1 → wM_ice_L80 post n s29 x18 x19 x20 x21 x22 x31))))
def wM_ice (post : Int32 → MS → Prop) (σ : MS) (a1 : Int32) (a2 : Int32) (a3 : Int32) (a4 : Int32) (a5 : Int32) : Prop := wM_isPlace (fun r2 s1 => (r2 = 0 → post (-1) s1) ∧ (¬ (r2 = 0) → wM_in (fun r5 s4 => (r5 = 0 → post (-1) s4) ∧ (¬ (r5 = 0) → wM_isSheet (fun r8 s7 => (r8 = 0 → post (-1) s7) ∧ (¬ (r8 = 0) → wM_in (fun r11 s10 => (¬ (r11 = 0) → (vp_in a1 16 ∧ ((s10 2 a1.toNatClampNeg) = 3 → wM_finds (fun r16 s15 => (0 ≤ r16 → ∃ n32, wM_ice_L80 post n32 s15 a1 a2 a3 a4 a5 0) ∧ (¬ (0 ≤ r16) → post r16 s15)) s10 a3 0 a4 a5) ∧ (¬ ((s10 2 a1.toNatClampNeg) = 3) → post (-12) s10))) ∧ (r11 = 0 → post (-1) s10)) s7 a5.toInt64 0 (((50 : Int32) - a2).toInt64))) s4 a3)) s1 a2.toInt64 0 49)) σ a1
abbrev rM_ice : Room := { frames := 2, cells := 0, slots := 0, locals := 46 }
set_option maxHeartbeats 4000000 in
set_option maxRecDepth 100000 in
theorem kM_ice_L80 {p : Program} {l : Launch} {e : Env} {s : State} {m : MethodId} {args : Array Value} {below : List Frame} {meth : Method} {c : Code} {g : MG} {post : Int32 → MS → Prop} (F : gFx p s m c meth args cX3_ice 8 RX3 (some .int) (mD g) (mcl g) (mty g)) (hO : MOK g) : ∀ (n : Nat) (σ : MS) (x18 : Int32) (x19 : Int32) (x20 : Int32) (x21 : Int32) (x22 : Int32) (x23 : Int32) (H : Heap) (locs : List Loc) (ls : Array Slot), gSt (MWd g) (MA g) s σ H locs → lv_has ls 8 [(0, .ref (mad g 62)), (1, .int x18), (2, .int x19), (3, .int x20), (4, .int x21), (5, .int x22), (7, .int x23)] → wM_ice_L80 post n σ x18 x19 x20 x21 x22 x23 → W p l e rM_ice s m args below meth c H locs 0 0 (MQ below (va_Qi post (gB (MWd g)) (MA g)) args s 0 0 (MA g)) (F0 m 80 ls []) := by
  have hx := F.hx
  have hb := F.hb
  have hts := F.1.2.2.2.2
  have hown := F.1.2.2.2.1
  intro n
  induction n with
  | zero =>
    intro σ x18 x19 x20 x21 x22 x23 H locs ls hS hl h
    exact False.elim h
  | succ n ih =>
    intro σ x18 x19 x20 x21 x22 x23 H locs ls hS hl h
    rw [wM_ice_L80] at h
    refine lv_iload hx hb dX3_ice_80 (lv_at hl 6 rfl) ?_
    refine lv_iload hx hb dX3_ice_82 (lv_at hl 5 rfl) ?_
    refine lv_icmp_ge (tgt := 130) hx hb dX3_ice_84 (by decide) (fun c24 => ?_) (fun c24 => ?_)
    · have h := h.1 c24
      refine lv_iload hx hb dX3_ice_130 (lv_at hl 5 rfl) ?_
      exact gw_iret F hS h dX3_ice_132
    · have h := h.2 c24
      refine lv_aload_n hx hb dX3_ice_87 rfl (lv_at hl 0 rfl) ?_
      refine m_geta F hO hS 10 (by decide) rfl q1407 dX3_ice_88 ?_
      refine lv_bipush (v := 50) hx hb dX3_ice_91 (by decide) ?_
      refine lv_iload_n hx hb dX3_ice_93 rfl (lv_at hl 1 rfl) ?_
      refine lv_imul hx hb dX3_ice_94 ?_
      refine lv_iload_n hx hb dX3_ice_95 rfl (lv_at hl 2 rfl) ?_
      refine lv_iadd hx hb dX3_ice_96 ?_
      refine lv_iload hx hb dX3_ice_97 (lv_at hl 6 rfl) ?_
      refine lv_iadd hx hb dX3_ice_99 ?_
      refine lv_aload_n hx hb dX3_ice_100 rfl (lv_at hl 0 rfl) ?_
      refine m_geta F hO hS 60 (by decide) rfl q1457 dX3_ice_101 ?_
      refine lv_bipush (v := 50) hx hb dX3_ice_104 (by decide) ?_
      refine lv_iload_n hx hb dX3_ice_106 rfl (lv_at hl 3 rfl) ?_
      refine lv_imul hx hb dX3_ice_107 ?_
      refine lv_iload hx hb dX3_ice_108 (lv_at hl 4 rfl) ?_
      refine lv_iadd hx hb dX3_ice_110 ?_
      refine lv_iload hx hb dX3_ice_111 (lv_at hl 6 rfl) ?_
      refine lv_iadd hx hb dX3_ice_113 ?_
      obtain ⟨b25, h⟩ := h
      refine m_iald F hS 60 47 rfl rfl b25 dX3_ice_114 ?_
      refine gcut (P := ∀ (v27 : Int32) (H : Heap) (locs : List Loc) (ls : Array Slot), v27 = (if (σ 60 ((((50 : Int32) * x20) + x21) + x23).toNatClampNeg) = 0 then 0 else 1) → gSt (MWd g) (MA g) s σ H locs → lv_has ls 8 [(0, .ref (mad g 62)), (1, .int x18), (2, .int x19), (3, .int x20), (4, .int x21), (5, .int x22), (7, .int x23)] → W p l e rM_ice s m args below meth c H locs 0 0 (MQ below (va_Qi post (gB (MWd g)) (MA g)) args s 0 0 (MA g)) (F0 m 123 ls [.int v27, .int ((((50 : Int32) * x18) + x19) + x23), .ref (mad g 10)])) (fun v27 H locs ls ev27 hS hl => ?_) (fun J28 => ?_)
      · have h := h v27 ev27
        obtain ⟨b30, h⟩ := h
        refine m_zast F hO hS 10 8 rfl rfl b30 (by rw [ev27]; exact (bz_ite bz0 bz1)) dX3_ice_123 (fun s29 es29 H locs hS => ?_)
        have h := h s29 es29
        obtain ⟨x31, ex31⟩ : ∃ y : Int32, y = x23 + 1 := ⟨_, rfl⟩
        have h := h x31 ex31
        refine lv_iinc (v := x31) (lv' := [(7, .int x31), (0, .ref (mad g 62)), (1, .int x18), (2, .int x19), (3, .int x20), (4, .int x21), (5, .int x22)]) hx hb dX3_ice_124 hl (k := 6) rfl (by rw [ex31]; rfl) (by decide) rfl (fun ls hl => ?_)
        refine lv_goto (tgt := 80) hx hb dX3_ice_127 (by decide) ?_
        exact ih s29 x18 x19 x20 x21 x22 x31 H locs ls hS (lv_sub hl [1, 2, 3, 4, 5, 6, 0] rfl) h
      · refine lv_if_eq (tgt := 122) hx hb dX3_ice_115 (by decide) (fun c26 => ?_) (fun c26 => ?_)
        · refine lv_iconst (v := 0) hx hb dX3_ice_122 (by decide) ?_
          exact J28 _ H locs ls (by first | with_reducible rfl | ((try rw [if_pos c26]); done)) hS (lv_sub hl [0, 1, 2, 3, 4, 5, 6] rfl)
        · refine lv_iconst (v := 1) hx hb dX3_ice_118 (by decide) ?_
          refine lv_goto (tgt := 123) hx hb dX3_ice_119 (by decide) ?_
          exact J28 _ H locs ls (by first | with_reducible rfl | ((try rw [if_neg c26]); done)) hS (lv_sub hl [0, 1, 2, 3, 4, 5, 6] rfl)
set_option maxHeartbeats 4000000 in
set_option maxRecDepth 100000 in
theorem kM_ice {p : Program} {l : Launch} {e : Env} {s : State} {m : MethodId} {args : Array Value} {below : List Frame} {meth : Method} {c : Code} {g : MG} {post : Int32 → MS → Prop} (F : gFx p s m c meth args cX3_ice 8 RX3 (some .int) (mD g) (mcl g) (mty g)) (hO : MOK g) (σ : MS) (a1 : Int32) (a2 : Int32) (a3 : Int32) (a4 : Int32) (a5 : Int32) (H : Heap) (locs : List Loc) (ls : Array Slot) (hS : gSt (MWd g) (MA g) s σ H locs) (hl : lv_has ls 8 [(0, .ref (mad g 62)), (1, .int a1), (2, .int a2), (3, .int a3), (4, .int a4), (5, .int a5)]) (h : wM_ice post σ a1 a2 a3 a4 a5) : W p l e rM_ice s m args below meth c H locs 0 0 (MQ below (va_Qi post (gB (MWd g)) (MA g)) args s 0 0 (MA g)) (F0 m 0 ls []) := by
  have hx := F.hx
  have hb := F.hb
  have hts := F.1.2.2.2.2
  have hown := F.1.2.2.2.1
  rw [wM_ice] at h
  refine lv_aload_n hx hb dX3_ice_0 rfl (lv_at hl 0 rfl) ?_
  refine lv_iload_n hx hb dX3_ice_1 rfl (lv_at hl 1 rfl) ?_
  refine gw_callVi (As := [.int a1]) (rest := []) F hS (tM_isPlace l g hO σ a1 _ h) (cwV 1 hts (lw_V q1618 q1620 qs40 q90 q1621) rfl rfl rfl (by decide +kernel) ⟨Nat.le_of_ble_eq_true rfl, Nat.le_of_ble_eq_true rfl⟩) (m_rec F hO hS) rfl hl.1 rfl (Nat.le_of_ble_eq_true rfl) dX3_ice_2 ⟨Nat.le_refl 0, Nat.le_refl 0⟩ (fun r2 s1 H locs h hS => ?_)
  obtain ⟨zr2, h⟩ := h
  refine lv_if_eq (tgt := 42) hx hb dX3_ice_5 (by decide) (fun c3 => ?_) (fun c3 => ?_)
  · have h := h.1 c3
    refine lv_iconst (v := (-1)) hx hb dX3_ice_42 (by decide) ?_
    exact gw_iret F hS h dX3_ice_43
  · have h := h.2 c3
    refine lv_iload_n hx hb dX3_ice_8 rfl (lv_at hl 2 rfl) ?_
    refine lv_i2l hx hb dX3_ice_9 rfl ?_
    refine lv_lconst (v := 0) hx hb dX3_ice_10 (by decide) ?_
    refine lv_ldc2 (v := 49) hx hb hown (hts _ q1654) dX3_ice_11 ?_
    refine gw_callSi (As := [.long a2.toInt64, .long 0, .long 49]) (rest := []) F hS (tM_in l g hO s1 a2.toInt64 0 49 _ h) (va_cwS 3 hts (lw_S q1593 q1594 q90 q1595) rfl rfl rfl (by decide +kernel) ⟨Nat.le_of_ble_eq_true rfl, Nat.le_of_ble_eq_true rfl⟩) rfl hl.1 rfl (Nat.le_of_ble_eq_true rfl) dX3_ice_14 ⟨Nat.le_refl 0, Nat.le_refl 0⟩ (fun r5 s4 H locs h hS => ?_)
    obtain ⟨zr5, h⟩ := h
    refine lv_if_eq (tgt := 42) hx hb dX3_ice_17 (by decide) (fun c6 => ?_) (fun c6 => ?_)
    · have h := h.1 c6
      refine lv_iconst (v := (-1)) hx hb dX3_ice_42 (by decide) ?_
      exact gw_iret F hS h dX3_ice_43
    · have h := h.2 c6
      refine lv_iload_n hx hb dX3_ice_20 rfl (lv_at hl 3 rfl) ?_
      refine gw_callSi (As := [.int a3]) (rest := []) F hS (tM_isSheet l g hO s4 a3 _ h) (va_cwS 1 hts (lw_S q1659 q1660 q90 q1661) rfl rfl rfl (by decide +kernel) ⟨Nat.le_of_ble_eq_true rfl, Nat.le_of_ble_eq_true rfl⟩) rfl hl.1 rfl (Nat.le_of_ble_eq_true rfl) dX3_ice_21 ⟨Nat.le_refl 0, Nat.le_refl 0⟩ (fun r8 s7 H locs h hS => ?_)
      obtain ⟨zr8, h⟩ := h
      refine lv_if_eq (tgt := 42) hx hb dX3_ice_24 (by decide) (fun c9 => ?_) (fun c9 => ?_)
      · have h := h.1 c9
        refine lv_iconst (v := (-1)) hx hb dX3_ice_42 (by decide) ?_
        exact gw_iret F hS h dX3_ice_43
      · have h := h.2 c9
        refine lv_iload hx hb dX3_ice_27 (lv_at hl 5 rfl) ?_
        refine lv_i2l hx hb dX3_ice_29 rfl ?_
        refine lv_lconst (v := 0) hx hb dX3_ice_30 (by decide) ?_
        refine lv_bipush (v := 50) hx hb dX3_ice_31 (by decide) ?_
        refine lv_iload_n hx hb dX3_ice_33 rfl (lv_at hl 2 rfl) ?_
        refine lv_isub hx hb dX3_ice_34 ?_
        refine lv_i2l hx hb dX3_ice_35 rfl ?_
        refine gw_callSi (As := [.long a5.toInt64, .long 0, .long (((50 : Int32) - a2).toInt64)]) (rest := []) F hS (tM_in l g hO s7 a5.toInt64 0 (((50 : Int32) - a2).toInt64) _ h) (va_cwS 3 hts (lw_S q1593 q1594 q90 q1595) rfl rfl rfl (by decide +kernel) ⟨Nat.le_of_ble_eq_true rfl, Nat.le_of_ble_eq_true rfl⟩) rfl hl.1 rfl (Nat.le_of_ble_eq_true rfl) dX3_ice_36 ⟨Nat.le_refl 0, Nat.le_refl 0⟩ (fun r11 s10 H locs h hS => ?_)
        obtain ⟨zr11, h⟩ := h
        refine lv_if_ne (tgt := 44) hx hb dX3_ice_39 (by decide) (fun c12 => ?_) (fun c12 => ?_)
        · have h := h.1 c12
          refine lv_aload_n hx hb dX3_ice_44 rfl (lv_at hl 0 rfl) ?_
          refine m_geta F hO hS 2 (by decide) rfl q1399 dX3_ice_45 ?_
          refine lv_iload_n hx hb dX3_ice_48 rfl (lv_at hl 1 rfl) ?_
          obtain ⟨b13, h⟩ := h
          refine m_iald F hS 2 0 rfl rfl b13 dX3_ice_49 ?_
          refine lv_iconst (v := 3) hx hb dX3_ice_50 (by decide) ?_
          refine lv_icmp_eq (tgt := 57) hx hb dX3_ice_51 (by decide) (fun c14 => ?_) (fun c14 => ?_)
          · have h := h.1 c14
            refine lv_aload_n hx hb dX3_ice_57 rfl (lv_at hl 0 rfl) ?_
            refine lv_iload_n hx hb dX3_ice_58 rfl (lv_at hl 3 rfl) ?_
            refine lv_iconst (v := 0) hx hb dX3_ice_59 (by decide) ?_
            refine lv_iload hx hb dX3_ice_60 (lv_at hl 4 rfl) ?_
            refine lv_iload hx hb dX3_ice_62 (lv_at hl 5 rfl) ?_
            refine gw_callVi (As := [.int a3, .int 0, .int a4, .int a5]) (rest := []) F hS (tM_finds l g hO s10 a3 0 a4 a5 _ h) (cwV 4 hts (lw_V q1662 q1664 qs44 q90 q1665) rfl rfl rfl (by decide +kernel) ⟨Nat.le_of_ble_eq_true rfl, Nat.le_of_ble_eq_true rfl⟩) (m_rec F hO hS) rfl hl.1 rfl (Nat.le_of_ble_eq_true rfl) dX3_ice_64 ⟨Nat.le_refl 0, Nat.le_refl 0⟩ (fun r16 s15 H locs h hS => ?_)
            refine lv_istore (lv' := [(6, .int r16), (0, .ref (mad g 62)), (1, .int a1), (2, .int a2), (3, .int a3), (4, .int a4), (5, .int a5)]) hx hb dX3_ice_67 hl (by decide) rfl (fun ls hl => ?_)
            refine lv_iload hx hb dX3_ice_69 (lv_at hl 0 rfl) ?_
            refine lv_if_ge (tgt := 77) hx hb dX3_ice_71 (by decide) (fun c17 => ?_) (fun c17 => ?_)
            · have h := h.1 c17
              refine lv_iconst (v := 0) hx hb dX3_ice_77 (by decide) ?_
              refine lv_istore (lv' := [(7, .int 0), (6, .int r16), (0, .ref (mad g 62)), (1, .int a1), (2, .int a2), (3, .int a3), (4, .int a4), (5, .int a5)]) hx hb dX3_ice_78 hl (by decide) rfl (fun ls hl => ?_)
              obtain ⟨n32, h⟩ := h
              exact (kM_ice_L80 F hO n32) s15 a1 a2 a3 a4 a5 0 H locs ls hS (lv_sub hl [2, 3, 4, 5, 6, 7, 0] rfl) h
            · have h := h.2 c17
              refine lv_iload hx hb dX3_ice_74 (lv_at hl 0 rfl) ?_
              exact gw_iret F hS h dX3_ice_76
          · have h := h.2 c14
            refine lv_bipush (v := (-12)) hx hb dX3_ice_54 (by decide) ?_
            exact gw_iret F hS h dX3_ice_56
        · have h := h.2 c12
          refine lv_iconst (v := (-1)) hx hb dX3_ice_42 (by decide) ?_
          exact gw_iret F hS h dX3_ice_43
set_option maxHeartbeats 4000000 in
set_option maxRecDepth 100000 in
theorem tM_ice (l : Launch) (g : MG) (hO : MOK g) (σ : MS) (a1 : Int32) (a2 : Int32) (a3 : Int32) (a4 : Int32) (a5 : Int32) (post : Int32 → MS → Prop) (h : wM_ice post σ a1 a2 a3 a4 a5) : Met l yX3_ice (ws_ yX3_ice cX3_ice 8 (some .int)) rM_ice (va_Pc [.ref (mad g 62), .int a1, .int a2, .int a3, .int a4, .int a5] (gPre (MWd g) (mD g) (mcl g) (mty g) σ)) (va_Qi post (gB (MWd g)) (MA g)) 0 0 (MA g) := by
  refine Met.ofW (cc := cX3_ice) (maxL := 8) (ret := (some .int)) (by decide) rfl ?_
  intro p e s m args below meth c s₁ B hml hv
  obtain ⟨rfl, hW, hK⟩ := hv
  have hts := atoms_spec (ws := (ws_ yX3_ice cX3_ice 8 (some .int))) B.pre
  have hts : ∀ w ∈ lw_all, w.before _ s = true := fun w h => hts w (List.mem_cons_of_mem _ h)
  have hl := lv_entry ([.ref (mad g 62), .int a1, .int a2, .int a3, .int a4, .int a5]) (n := 8) (Nat.le_of_ble_eq_true rfl)
  rw [lg_entry_eq]
  generalize (lg_sl ([.ref (mad g 62), .int a1, .int a2, .int a3, .int a4, .int a5]) ++ List.replicate (8 - (lg_sl ([.ref (mad g 62), .int a1, .int a2, .int a3, .int a4, .int a5])).length) Slot.unset).toArray = ls at hl ⊢
  exact kM_ice ⟨⟨B.exec, B.bytes, hml, findClass_of_methodNamed B.named, hts⟩, hK, B.returns, B.notSynchronized⟩ hO σ a1 a2 a3 a4 a5 s.heap [] ls ⟨hW, va_S.rf⟩ hl h
def wM_bearsAt (post : Int32 → MS → Prop) (σ : MS) (a1 : Int32) (a2 : Int32) : Prop := (vp_in a1 16 ∧ (¬ ((σ 2 a1.toNatClampNeg) = 3) → post 1 σ) ∧ ((σ 2 a1.toNatClampNeg) = 3 → wM_weekOf (fun r4 s3 => (vp_in (((50 : Int32) * a1) + r4) 800 ∧ (∀ v7 : Int32, v7 = (if (s3 10 (((50 : Int32) * a1) + r4).toNatClampNeg) = 0 then 0 else 1) → post v7 s3))) σ a2))
abbrev rM_bearsAt : Room := { frames := 1, cells := 0, slots := 0, locals := 20 }
set_option maxHeartbeats 4000000 in
set_option maxRecDepth 100000 in
theorem kM_bearsAt {p : Program} {l : Launch} {e : Env} {s : State} {m : MethodId} {args : Array Value} {below : List Frame} {meth : Method} {c : Code} {g : MG} {post : Int32 → MS → Prop} (F : gFx p s m c meth args cX3_bearsAt 3 RX3 (some .boolean) (mD g) (mcl g) (mty g)) (hO : MOK g) (σ : MS) (a1 : Int32) (a2 : Int32) (H : Heap) (locs : List Loc) (ls : Array Slot) (hS : gSt (MWd g) (MA g) s σ H locs) (hl : lv_has ls 3 [(0, .ref (mad g 62)), (1, .int a1), (2, .int a2)]) (h : wM_bearsAt post σ a1 a2) : W p l e rM_bearsAt s m args below meth c H locs 0 0 (MQ below (va_Qi (zpost post) (gB (MWd g)) (MA g)) args s 0 0 (MA g)) (F0 m 0 ls []) := by
  have hx := F.hx
  have hb := F.hb
  have hts := F.1.2.2.2.2
  have hown := F.1.2.2.2.1
  rw [wM_bearsAt] at h
  refine lv_aload_n hx hb dX3_bearsAt_0 rfl (lv_at hl 0 rfl) ?_
  refine m_geta F hO hS 2 (by decide) rfl q1399 dX3_bearsAt_1 ?_
  refine lv_iload_n hx hb dX3_bearsAt_4 rfl (lv_at hl 1 rfl) ?_
  obtain ⟨b1, h⟩ := h
  refine m_iald F hS 2 0 rfl rfl b1 dX3_bearsAt_5 ?_
  refine lv_iconst (v := 3) hx hb dX3_bearsAt_6 (by decide) ?_
  refine lv_icmp_ne (tgt := 27) hx hb dX3_bearsAt_7 (by decide) (fun c2 => ?_) (fun c2 => ?_)
  · have h := h.1 c2
    refine lv_iconst (v := 1) hx hb dX3_bearsAt_27 (by decide) ?_
    refine lv_goto (tgt := 32) hx hb dX3_bearsAt_28 (by decide) ?_
    exact gw_zret F hS bz1 h dX3_bearsAt_32
  · have h := h.2 c2
    refine lv_aload_n hx hb dX3_bearsAt_10 rfl (lv_at hl 0 rfl) ?_
    refine m_geta F hO hS 10 (by decide) rfl q1407 dX3_bearsAt_11 ?_
    refine lv_bipush (v := 50) hx hb dX3_bearsAt_14 (by decide) ?_
    refine lv_iload_n hx hb dX3_bearsAt_16 rfl (lv_at hl 1 rfl) ?_
    refine lv_imul hx hb dX3_bearsAt_17 ?_
    refine lv_iload_n hx hb dX3_bearsAt_18 rfl (lv_at hl 2 rfl) ?_
    refine gw_callSi (As := [.int a2]) (rest := [.int ((50 : Int32) * a1), .ref (mad g 10)]) F hS (tM_weekOf l g hO σ a2 _ h) (va_cwS 1 hts (lw_S q1674 q1675 q90 q1676) rfl rfl rfl (by decide +kernel) ⟨Nat.le_of_ble_eq_true rfl, Nat.le_of_ble_eq_true rfl⟩) rfl hl.1 rfl (Nat.le_of_ble_eq_true rfl) dX3_bearsAt_19 ⟨Nat.le_refl 0, Nat.le_refl 0⟩ (fun r4 s3 H locs h hS => ?_)
    refine lv_iadd hx hb dX3_bearsAt_22 ?_
    obtain ⟨b5, h⟩ := h
    refine m_zald F hS 10 8 rfl rfl b5 dX3_bearsAt_23 ?_
    refine gcut (P := ∀ (v7 : Int32) (H : Heap) (locs : List Loc) (ls : Array Slot), v7 = (if (s3 10 (((50 : Int32) * a1) + r4).toNatClampNeg) = 0 then 0 else 1) → gSt (MWd g) (MA g) s s3 H locs → lv_has ls 3 [] → W p l e rM_bearsAt s m args below meth c H locs 0 0 (MQ below (va_Qi (zpost post) (gB (MWd g)) (MA g)) args s 0 0 (MA g)) (F0 m 32 ls [.int v7])) (fun v7 H locs ls ev7 hS hl => ?_) (fun J8 => ?_)
    · have h := h v7 ev7
      exact gw_zret F hS (by rw [ev7]; exact (bz_ite bz0 bz1)) h dX3_bearsAt_32
    · refine lv_if_eq (tgt := 31) hx hb dX3_bearsAt_24 (by decide) (fun c6 => ?_) (fun c6 => ?_)
      · refine lv_iconst (v := 0) hx hb dX3_bearsAt_31 (by decide) ?_
        exact J8 _ H locs ls (by first | with_reducible rfl | ((try rw [if_pos c6]); done)) hS (lv_sub hl [] rfl)
      · refine lv_iconst (v := 1) hx hb dX3_bearsAt_27 (by decide) ?_
        refine lv_goto (tgt := 32) hx hb dX3_bearsAt_28 (by decide) ?_
        exact J8 _ H locs ls (by first | with_reducible rfl | ((try rw [if_neg c6]); done)) hS (lv_sub hl [] rfl)
set_option maxHeartbeats 4000000 in
set_option maxRecDepth 100000 in
theorem tM_bearsAt (l : Launch) (g : MG) (hO : MOK g) (σ : MS) (a1 : Int32) (a2 : Int32) (post : Int32 → MS → Prop) (h : wM_bearsAt post σ a1 a2) : Met l yX3_bearsAt (ws_ yX3_bearsAt cX3_bearsAt 3 (some .boolean)) rM_bearsAt (va_Pc [.ref (mad g 62), .int a1, .int a2] (gPre (MWd g) (mD g) (mcl g) (mty g) σ)) (va_Qi (zpost post) (gB (MWd g)) (MA g)) 0 0 (MA g) := by
  refine Met.ofW (cc := cX3_bearsAt) (maxL := 3) (ret := (some .boolean)) (by decide) rfl ?_
  intro p e s m args below meth c s₁ B hml hv
  obtain ⟨rfl, hW, hK⟩ := hv
  have hts := atoms_spec (ws := (ws_ yX3_bearsAt cX3_bearsAt 3 (some .boolean))) B.pre
  have hts : ∀ w ∈ lw_all, w.before _ s = true := fun w h => hts w (List.mem_cons_of_mem _ h)
  have hl := lv_entry ([.ref (mad g 62), .int a1, .int a2]) (n := 3) (Nat.le_of_ble_eq_true rfl)
  rw [lg_entry_eq]
  generalize (lg_sl ([.ref (mad g 62), .int a1, .int a2]) ++ List.replicate (3 - (lg_sl ([.ref (mad g 62), .int a1, .int a2])).length) Slot.unset).toArray = ls at hl ⊢
  exact kM_bearsAt ⟨⟨B.exec, B.bytes, hml, findClass_of_methodNamed B.named, hts⟩, hK, B.returns, B.notSynchronized⟩ hO σ a1 a2 s.heap [] ls ⟨hW, va_S.rf⟩ hl h
def wM_last_L43 (post : Int32 → MS → Prop) : Nat → MS → Int32 → Int32 → Prop
  | 0, _, _, _ => False
  | n + 1, σ, x10, x11 => (9999 ≤ x11 → post x11 σ) ∧ (¬ (9999 ≤ x11) → wM_bearsAt (fun r14 s13 => (r14 = 0 → post x11 s13) ∧ (¬ (r14 = 0) → (∀ x16 : Int32, x16 = x11 + 1 → wM_last_L43 post n s13 x10 x16))) σ x10 (x11 + 1))
def wM_last (post : Int32 → MS → Prop) (σ : MS) (a1 : Int32) : Prop := wM_isPlace (fun r2 s1 => (¬ (r2 = 0) → (vp_in a1 16 ∧ ((s1 2 a1.toNatClampNeg) = 3 → wM_bearsAt (fun r7 s6 => (¬ (r7 = 0) → (∀ x9 : Int32, x9 = s6 0 0 → ∃ n17, wM_last_L43 post n17 s6 a1 x9)) ∧ (r7 = 0 → post (-4) s6)) s1 a1 (s1 0 0)) ∧ (¬ ((s1 2 a1.toNatClampNeg) = 3) → post (-12) s1))) ∧ (r2 = 0 → post (-1) s1)) σ a1
abbrev rM_last : Room := { frames := 2, cells := 0, slots := 0, locals := 46 }
set_option maxHeartbeats 4000000 in
set_option maxRecDepth 100000 in
theorem kM_last_L43 {p : Program} {l : Launch} {e : Env} {s : State} {m : MethodId} {args : Array Value} {below : List Frame} {meth : Method} {c : Code} {g : MG} {post : Int32 → MS → Prop} (F : gFx p s m c meth args cX3_last 3 RX3 (some .int) (mD g) (mcl g) (mty g)) (hO : MOK g) : ∀ (n : Nat) (σ : MS) (x10 : Int32) (x11 : Int32) (H : Heap) (locs : List Loc) (ls : Array Slot), gSt (MWd g) (MA g) s σ H locs → lv_has ls 3 [(0, .ref (mad g 62)), (1, .int x10), (2, .int x11)] → wM_last_L43 post n σ x10 x11 → W p l e rM_last s m args below meth c H locs 0 0 (MQ below (va_Qi post (gB (MWd g)) (MA g)) args s 0 0 (MA g)) (F0 m 43 ls []) := by
  have hx := F.hx
  have hb := F.hb
  have hts := F.1.2.2.2.2
  have hown := F.1.2.2.2.1
  intro n
  induction n with
  | zero =>
    intro σ x10 x11 H locs ls hS hl h
    exact False.elim h
  | succ n ih =>
    intro σ x10 x11 H locs ls hS hl h
    rw [wM_last_L43] at h
    refine lv_iload_n hx hb dX3_last_43 rfl (lv_at hl 2 rfl) ?_
    refine lv_sipush (v := 9999) hx hb dX3_last_44 (by decide) ?_
    refine lv_icmp_ge (tgt := 67) hx hb dX3_last_47 (by decide) (fun c12 => ?_) (fun c12 => ?_)
    · have h := h.1 c12
      refine lv_iload_n hx hb dX3_last_67 rfl (lv_at hl 2 rfl) ?_
      exact gw_iret F hS h dX3_last_68
    · have h := h.2 c12
      refine lv_aload_n hx hb dX3_last_50 rfl (lv_at hl 0 rfl) ?_
      refine lv_iload_n hx hb dX3_last_51 rfl (lv_at hl 1 rfl) ?_
      refine lv_iload_n hx hb dX3_last_52 rfl (lv_at hl 2 rfl) ?_
      refine lv_iconst (v := 1) hx hb dX3_last_53 (by decide) ?_
      refine lv_iadd hx hb dX3_last_54 ?_
      refine gw_callVi (As := [.int x10, .int (x11 + 1)]) (rest := []) F hS (tM_bearsAt l g hO σ x10 (x11 + 1) _ h) (cwV 2 hts (lw_V q1670 q1672 qs45 q90 q1673) rfl rfl rfl (by decide +kernel) ⟨Nat.le_of_ble_eq_true rfl, Nat.le_of_ble_eq_true rfl⟩) (m_rec F hO hS) rfl hl.1 rfl (Nat.le_of_ble_eq_true rfl) dX3_last_55 ⟨Nat.le_refl 0, Nat.le_refl 0⟩ (fun r14 s13 H locs h hS => ?_)
      obtain ⟨zr14, h⟩ := h
      refine lv_if_eq (tgt := 67) hx hb dX3_last_58 (by decide) (fun c15 => ?_) (fun c15 => ?_)
      · have h := h.1 c15
        refine lv_iload_n hx hb dX3_last_67 rfl (lv_at hl 2 rfl) ?_
        exact gw_iret F hS h dX3_last_68
      · have h := h.2 c15
        obtain ⟨x16, ex16⟩ : ∃ y : Int32, y = x11 + 1 := ⟨_, rfl⟩
        have h := h x16 ex16
        refine lv_iinc (v := x16) (lv' := [(2, .int x16), (0, .ref (mad g 62)), (1, .int x10)]) hx hb dX3_last_61 hl (k := 2) rfl (by rw [ex16]; rfl) (by decide) rfl (fun ls hl => ?_)
        refine lv_goto (tgt := 43) hx hb dX3_last_64 (by decide) ?_
        exact ih s13 x10 x16 H locs ls hS (lv_sub hl [1, 2, 0] rfl) h
set_option maxHeartbeats 4000000 in
set_option maxRecDepth 100000 in
theorem kM_last {p : Program} {l : Launch} {e : Env} {s : State} {m : MethodId} {args : Array Value} {below : List Frame} {meth : Method} {c : Code} {g : MG} {post : Int32 → MS → Prop} (F : gFx p s m c meth args cX3_last 3 RX3 (some .int) (mD g) (mcl g) (mty g)) (hO : MOK g) (σ : MS) (a1 : Int32) (H : Heap) (locs : List Loc) (ls : Array Slot) (hS : gSt (MWd g) (MA g) s σ H locs) (hl : lv_has ls 3 [(0, .ref (mad g 62)), (1, .int a1)]) (h : wM_last post σ a1) : W p l e rM_last s m args below meth c H locs 0 0 (MQ below (va_Qi post (gB (MWd g)) (MA g)) args s 0 0 (MA g)) (F0 m 0 ls []) := by
  have hx := F.hx
  have hb := F.hb
  have hts := F.1.2.2.2.2
  have hown := F.1.2.2.2.1
  rw [wM_last] at h
  refine lv_aload_n hx hb dX3_last_0 rfl (lv_at hl 0 rfl) ?_
  refine lv_iload_n hx hb dX3_last_1 rfl (lv_at hl 1 rfl) ?_
  refine gw_callVi (As := [.int a1]) (rest := []) F hS (tM_isPlace l g hO σ a1 _ h) (cwV 1 hts (lw_V q1618 q1620 qs40 q90 q1621) rfl rfl rfl (by decide +kernel) ⟨Nat.le_of_ble_eq_true rfl, Nat.le_of_ble_eq_true rfl⟩) (m_rec F hO hS) rfl hl.1 rfl (Nat.le_of_ble_eq_true rfl) dX3_last_2 ⟨Nat.le_refl 0, Nat.le_refl 0⟩ (fun r2 s1 H locs h hS => ?_)
  obtain ⟨zr2, h⟩ := h
  refine lv_if_ne (tgt := 10) hx hb dX3_last_5 (by decide) (fun c3 => ?_) (fun c3 => ?_)
  · have h := h.1 c3
    refine lv_aload_n hx hb dX3_last_10 rfl (lv_at hl 0 rfl) ?_
    refine m_geta F hO hS 2 (by decide) rfl q1399 dX3_last_11 ?_
    refine lv_iload_n hx hb dX3_last_14 rfl (lv_at hl 1 rfl) ?_
    obtain ⟨b4, h⟩ := h
    refine m_iald F hS 2 0 rfl rfl b4 dX3_last_15 ?_
    refine lv_iconst (v := 3) hx hb dX3_last_16 (by decide) ?_
    refine lv_icmp_eq (tgt := 23) hx hb dX3_last_17 (by decide) (fun c5 => ?_) (fun c5 => ?_)
    · have h := h.1 c5
      refine lv_aload_n hx hb dX3_last_23 rfl (lv_at hl 0 rfl) ?_
      refine lv_iload_n hx hb dX3_last_24 rfl (lv_at hl 1 rfl) ?_
      refine lv_aload_n hx hb dX3_last_25 rfl (lv_at hl 0 rfl) ?_
      refine m_geti F hO hS 0 (by decide) rfl q1397 dX3_last_26 ?_
      refine gw_callVi (As := [.int a1, .int (s1 0 0)]) (rest := []) F hS (tM_bearsAt l g hO s1 a1 (s1 0 0) _ h) (cwV 2 hts (lw_V q1670 q1672 qs45 q90 q1673) rfl rfl rfl (by decide +kernel) ⟨Nat.le_of_ble_eq_true rfl, Nat.le_of_ble_eq_true rfl⟩) (m_rec F hO hS) rfl hl.1 rfl (Nat.le_of_ble_eq_true rfl) dX3_last_29 ⟨Nat.le_refl 0, Nat.le_refl 0⟩ (fun r7 s6 H locs h hS => ?_)
      obtain ⟨zr7, h⟩ := h
      refine lv_if_ne (tgt := 38) hx hb dX3_last_32 (by decide) (fun c8 => ?_) (fun c8 => ?_)
      · have h := h.1 c8
        refine lv_aload_n hx hb dX3_last_38 rfl (lv_at hl 0 rfl) ?_
        refine m_geti F hO hS 0 (by decide) rfl q1397 dX3_last_39 ?_
        refine lv_topi (fun x9 ex9 => ?_)
        have h := h x9 ex9
        refine lv_istore_n (lv' := [(2, .int x9), (0, .ref (mad g 62)), (1, .int a1)]) hx hb dX3_last_42 rfl hl (by decide) rfl (fun ls hl => ?_)
        obtain ⟨n17, h⟩ := h
        exact (kM_last_L43 F hO n17) s6 a1 x9 H locs ls hS (lv_sub hl [1, 2, 0] rfl) h
      · have h := h.2 c8
        refine lv_bipush (v := (-4)) hx hb dX3_last_35 (by decide) ?_
        exact gw_iret F hS h dX3_last_37
    · have h := h.2 c5
      refine lv_bipush (v := (-12)) hx hb dX3_last_20 (by decide) ?_
      exact gw_iret F hS h dX3_last_22
  · have h := h.2 c3
    refine lv_iconst (v := (-1)) hx hb dX3_last_8 (by decide) ?_
    exact gw_iret F hS h dX3_last_9
set_option maxHeartbeats 4000000 in
set_option maxRecDepth 100000 in
theorem tM_last (l : Launch) (g : MG) (hO : MOK g) (σ : MS) (a1 : Int32) (post : Int32 → MS → Prop) (h : wM_last post σ a1) : Met l yX3_last (ws_ yX3_last cX3_last 3 (some .int)) rM_last (va_Pc [.ref (mad g 62), .int a1] (gPre (MWd g) (mD g) (mcl g) (mty g) σ)) (va_Qi post (gB (MWd g)) (MA g)) 0 0 (MA g) := by
  refine Met.ofW (cc := cX3_last) (maxL := 3) (ret := (some .int)) (by decide) rfl ?_
  intro p e s m args below meth c s₁ B hml hv
  obtain ⟨rfl, hW, hK⟩ := hv
  have hts := atoms_spec (ws := (ws_ yX3_last cX3_last 3 (some .int))) B.pre
  have hts : ∀ w ∈ lw_all, w.before _ s = true := fun w h => hts w (List.mem_cons_of_mem _ h)
  have hl := lv_entry ([.ref (mad g 62), .int a1]) (n := 3) (Nat.le_of_ble_eq_true rfl)
  rw [lg_entry_eq]
  generalize (lg_sl ([.ref (mad g 62), .int a1]) ++ List.replicate (3 - (lg_sl ([.ref (mad g 62), .int a1])).length) Slot.unset).toArray = ls at hl ⊢
  exact kM_last ⟨⟨B.exec, B.bytes, hml, findClass_of_methodNamed B.named, hts⟩, hK, B.returns, B.notSynchronized⟩ hO σ a1 s.heap [] ls ⟨hW, va_S.rf⟩ hl h
def wM_isPerson (post : Int32 → MS → Prop) (σ : MS) (a1 : Int32) : Prop := wM_in (fun r2 s1 => post r2 s1) σ a1.toInt64 0 (((σ 18 0) - 1).toInt64)
abbrev rM_isPerson : Room := { frames := 1, cells := 0, slots := 0, locals := 25 }
set_option maxHeartbeats 4000000 in
set_option maxRecDepth 100000 in
theorem kM_isPerson {p : Program} {l : Launch} {e : Env} {s : State} {m : MethodId} {args : Array Value} {below : List Frame} {meth : Method} {c : Code} {g : MG} {post : Int32 → MS → Prop} (F : gFx p s m c meth args cX3_isPerson 2 RX3 (some .boolean) (mD g) (mcl g) (mty g)) (hO : MOK g) (σ : MS) (a1 : Int32) (H : Heap) (locs : List Loc) (ls : Array Slot) (hS : gSt (MWd g) (MA g) s σ H locs) (hl : lv_has ls 2 [(0, .ref (mad g 62)), (1, .int a1)]) (h : wM_isPerson post σ a1) : W p l e rM_isPerson s m args below meth c H locs 0 0 (MQ below (va_Qi (zpost post) (gB (MWd g)) (MA g)) args s 0 0 (MA g)) (F0 m 0 ls []) := by
  have hx := F.hx
  have hb := F.hb
  have hts := F.1.2.2.2.2
  have hown := F.1.2.2.2.1
  rw [wM_isPerson] at h
  refine lv_iload_n hx hb dX3_isPerson_0 rfl (lv_at hl 1 rfl) ?_
  refine lv_i2l hx hb dX3_isPerson_1 rfl ?_
  refine lv_lconst (v := 0) hx hb dX3_isPerson_2 (by decide) ?_
  refine lv_aload_n hx hb dX3_isPerson_3 rfl (lv_at hl 0 rfl) ?_
  refine m_geti F hO hS 18 (by decide) rfl q1415 dX3_isPerson_4 ?_
  refine lv_iconst (v := 1) hx hb dX3_isPerson_7 (by decide) ?_
  refine lv_isub hx hb dX3_isPerson_8 ?_
  refine lv_i2l hx hb dX3_isPerson_9 rfl ?_
  refine gw_callSi (As := [.long a1.toInt64, .long 0, .long (((σ 18 0) - 1).toInt64)]) (rest := []) F hS (tM_in l g hO σ a1.toInt64 0 (((σ 18 0) - 1).toInt64) _ h) (va_cwS 3 hts (lw_S q1593 q1594 q90 q1595) rfl rfl rfl (by decide +kernel) ⟨Nat.le_of_ble_eq_true rfl, Nat.le_of_ble_eq_true rfl⟩) rfl hl.1 rfl (Nat.le_of_ble_eq_true rfl) dX3_isPerson_10 ⟨Nat.le_refl 0, Nat.le_refl 0⟩ (fun r2 s1 H locs h hS => ?_)
  obtain ⟨zr2, h⟩ := h
  exact gw_zret F hS zr2 h dX3_isPerson_13
set_option maxHeartbeats 4000000 in
set_option maxRecDepth 100000 in
theorem tM_isPerson (l : Launch) (g : MG) (hO : MOK g) (σ : MS) (a1 : Int32) (post : Int32 → MS → Prop) (h : wM_isPerson post σ a1) : Met l yX3_isPerson (ws_ yX3_isPerson cX3_isPerson 2 (some .boolean)) rM_isPerson (va_Pc [.ref (mad g 62), .int a1] (gPre (MWd g) (mD g) (mcl g) (mty g) σ)) (va_Qi (zpost post) (gB (MWd g)) (MA g)) 0 0 (MA g) := by
  refine Met.ofW (cc := cX3_isPerson) (maxL := 2) (ret := (some .boolean)) (by decide) rfl ?_
  intro p e s m args below meth c s₁ B hml hv
  obtain ⟨rfl, hW, hK⟩ := hv
  have hts := atoms_spec (ws := (ws_ yX3_isPerson cX3_isPerson 2 (some .boolean))) B.pre
  have hts : ∀ w ∈ lw_all, w.before _ s = true := fun w h => hts w (List.mem_cons_of_mem _ h)
  have hl := lv_entry ([.ref (mad g 62), .int a1]) (n := 2) (Nat.le_of_ble_eq_true rfl)
  rw [lg_entry_eq]
  generalize (lg_sl ([.ref (mad g 62), .int a1]) ++ List.replicate (2 - (lg_sl ([.ref (mad g 62), .int a1])).length) Slot.unset).toArray = ls at hl ⊢
  exact kM_isPerson ⟨⟨B.exec, B.bytes, hml, findClass_of_methodNamed B.named, hts⟩, hK, B.returns, B.notSynchronized⟩ hO σ a1 s.heap [] ls ⟨hW, va_S.rf⟩ hl h
def wM_there_L4 (post : Int32 → MS → Prop) : Nat → MS → Int32 → Int32 → Int32 → Prop
  | 0, _, _, _, _ => False
  | n + 1, σ, x1, x2, x3 => ((σ 18 0) ≤ x3 → post x2 σ) ∧ (¬ ((σ 18 0) ≤ x3) → (vp_in x3 16 ∧ (∀ v7 : Int32, v7 = (if (σ 21 x3.toNatClampNeg) = x1 then 1 else 0) → (∀ x9 : Int32, x9 = x2 + v7 → ∀ x10 : Int32, x10 = x3 + 1 → wM_there_L4 post n σ x1 x9 x10))))
def wM_there (post : Int32 → MS → Prop) (σ : MS) (a1 : Int32) : Prop := ∃ n11, wM_there_L4 post n11 σ a1 0 0
abbrev rM_there : Room := { frames := 0, cells := 0, slots := 0, locals := 0 }
set_option maxHeartbeats 4000000 in
set_option maxRecDepth 100000 in
theorem kM_there_L4 {p : Program} {l : Launch} {e : Env} {s : State} {m : MethodId} {args : Array Value} {below : List Frame} {meth : Method} {c : Code} {g : MG} {post : Int32 → MS → Prop} (F : gFx p s m c meth args cX3_there 4 RX3 (some .int) (mD g) (mcl g) (mty g)) (hO : MOK g) : ∀ (n : Nat) (σ : MS) (x1 : Int32) (x2 : Int32) (x3 : Int32) (H : Heap) (locs : List Loc) (ls : Array Slot), gSt (MWd g) (MA g) s σ H locs → lv_has ls 4 [(0, .ref (mad g 62)), (1, .int x1), (2, .int x2), (3, .int x3)] → wM_there_L4 post n σ x1 x2 x3 → W p l e rM_there s m args below meth c H locs 0 0 (MQ below (va_Qi post (gB (MWd g)) (MA g)) args s 0 0 (MA g)) (F0 m 4 ls []) := by
  have hx := F.hx
  have hb := F.hb
  have hts := F.1.2.2.2.2
  have hown := F.1.2.2.2.1
  intro n
  induction n with
  | zero =>
    intro σ x1 x2 x3 H locs ls hS hl h
    exact False.elim h
  | succ n ih =>
    intro σ x1 x2 x3 H locs ls hS hl h
    rw [wM_there_L4] at h
    refine lv_iload_n hx hb dX3_there_4 rfl (lv_at hl 3 rfl) ?_
    refine lv_aload_n hx hb dX3_there_5 rfl (lv_at hl 0 rfl) ?_
    refine m_geti F hO hS 18 (by decide) rfl q1415 dX3_there_6 ?_
    refine lv_icmp_ge (tgt := 36) hx hb dX3_there_9 (by decide) (fun c4 => ?_) (fun c4 => ?_)
    · have h := h.1 c4
      refine lv_iload_n hx hb dX3_there_36 rfl (lv_at hl 2 rfl) ?_
      exact gw_iret F hS h dX3_there_37
    · have h := h.2 c4
      refine lv_iload_n hx hb dX3_there_12 rfl (lv_at hl 2 rfl) ?_
      refine lv_aload_n hx hb dX3_there_13 rfl (lv_at hl 0 rfl) ?_
      refine m_geta F hO hS 21 (by decide) rfl q1418 dX3_there_14 ?_
      refine lv_iload_n hx hb dX3_there_17 rfl (lv_at hl 3 rfl) ?_
      obtain ⟨b5, h⟩ := h
      refine m_iald F hS 21 17 rfl rfl b5 dX3_there_18 ?_
      refine lv_iload_n hx hb dX3_there_19 rfl (lv_at hl 1 rfl) ?_
      refine gcut (P := ∀ (v7 : Int32) (H : Heap) (locs : List Loc) (ls : Array Slot), v7 = (if (σ 21 x3.toNatClampNeg) = x1 then 1 else 0) → gSt (MWd g) (MA g) s σ H locs → lv_has ls 4 [(0, .ref (mad g 62)), (1, .int x1), (3, .int x3)] → W p l e rM_there s m args below meth c H locs 0 0 (MQ below (va_Qi post (gB (MWd g)) (MA g)) args s 0 0 (MA g)) (F0 m 28 ls [.int v7, .int x2])) (fun v7 H locs ls ev7 hS hl => ?_) (fun J8 => ?_)
      · have h := h v7 ev7
        refine lv_iadd hx hb dX3_there_28 ?_
        refine lv_topi (fun x9 ex9 => ?_)
        have h := h x9 ex9
        refine lv_istore_n (lv' := [(2, .int x9), (0, .ref (mad g 62)), (1, .int x1), (3, .int x3)]) hx hb dX3_there_29 rfl hl (by decide) rfl (fun ls hl => ?_)
        obtain ⟨x10, ex10⟩ : ∃ y : Int32, y = x3 + 1 := ⟨_, rfl⟩
        have h := h x10 ex10
        refine lv_iinc (v := x10) (lv' := [(3, .int x10), (2, .int x9), (0, .ref (mad g 62)), (1, .int x1)]) hx hb dX3_there_30 hl (k := 3) rfl (by rw [ex10]; rfl) (by decide) rfl (fun ls hl => ?_)
        refine lv_goto (tgt := 4) hx hb dX3_there_33 (by decide) ?_
        exact ih σ x1 x9 x10 H locs ls hS (lv_sub hl [2, 3, 1, 0] rfl) h
      · refine lv_icmp_ne (tgt := 27) hx hb dX3_there_20 (by decide) (fun c6 => ?_) (fun c6 => ?_)
        · refine lv_iconst (v := 0) hx hb dX3_there_27 (by decide) ?_
          exact J8 _ H locs ls (by first | with_reducible rfl | ((try rw [if_neg c6]); done)) hS (lv_sub hl [0, 1, 3] rfl)
        · refine lv_iconst (v := 1) hx hb dX3_there_23 (by decide) ?_
          refine lv_goto (tgt := 28) hx hb dX3_there_24 (by decide) ?_
          exact J8 _ H locs ls (by first | with_reducible rfl | ((try rw [if_pos c6]); done)) hS (lv_sub hl [0, 1, 3] rfl)
set_option maxHeartbeats 4000000 in
set_option maxRecDepth 100000 in
theorem kM_there {p : Program} {l : Launch} {e : Env} {s : State} {m : MethodId} {args : Array Value} {below : List Frame} {meth : Method} {c : Code} {g : MG} {post : Int32 → MS → Prop} (F : gFx p s m c meth args cX3_there 4 RX3 (some .int) (mD g) (mcl g) (mty g)) (hO : MOK g) (σ : MS) (a1 : Int32) (H : Heap) (locs : List Loc) (ls : Array Slot) (hS : gSt (MWd g) (MA g) s σ H locs) (hl : lv_has ls 4 [(0, .ref (mad g 62)), (1, .int a1)]) (h : wM_there post σ a1) : W p l e rM_there s m args below meth c H locs 0 0 (MQ below (va_Qi post (gB (MWd g)) (MA g)) args s 0 0 (MA g)) (F0 m 0 ls []) := by
  have hx := F.hx
  have hb := F.hb
  have hts := F.1.2.2.2.2
  have hown := F.1.2.2.2.1
  rw [wM_there] at h
  refine lv_iconst (v := 0) hx hb dX3_there_0 (by decide) ?_
  refine lv_istore_n (lv' := [(2, .int 0), (0, .ref (mad g 62)), (1, .int a1)]) hx hb dX3_there_1 rfl hl (by decide) rfl (fun ls hl => ?_)
  refine lv_iconst (v := 0) hx hb dX3_there_2 (by decide) ?_
  refine lv_istore_n (lv' := [(3, .int 0), (2, .int 0), (0, .ref (mad g 62)), (1, .int a1)]) hx hb dX3_there_3 rfl hl (by decide) rfl (fun ls hl => ?_)
  obtain ⟨n11, h⟩ := h
  exact (kM_there_L4 F hO n11) σ a1 0 0 H locs ls hS (lv_sub hl [2, 3, 1, 0] rfl) h
set_option maxHeartbeats 4000000 in
set_option maxRecDepth 100000 in
theorem tM_there (l : Launch) (g : MG) (hO : MOK g) (σ : MS) (a1 : Int32) (post : Int32 → MS → Prop) (h : wM_there post σ a1) : Met l yX3_there (ws_ yX3_there cX3_there 4 (some .int)) rM_there (va_Pc [.ref (mad g 62), .int a1] (gPre (MWd g) (mD g) (mcl g) (mty g) σ)) (va_Qi post (gB (MWd g)) (MA g)) 0 0 (MA g) := by
  refine Met.ofW (cc := cX3_there) (maxL := 4) (ret := (some .int)) (by decide) rfl ?_
  intro p e s m args below meth c s₁ B hml hv
  obtain ⟨rfl, hW, hK⟩ := hv
  have hts := atoms_spec (ws := (ws_ yX3_there cX3_there 4 (some .int))) B.pre
  have hts : ∀ w ∈ lw_all, w.before _ s = true := fun w h => hts w (List.mem_cons_of_mem _ h)
  have hl := lv_entry ([.ref (mad g 62), .int a1]) (n := 4) (Nat.le_of_ble_eq_true rfl)
  rw [lg_entry_eq]
  generalize (lg_sl ([.ref (mad g 62), .int a1]) ++ List.replicate (4 - (lg_sl ([.ref (mad g 62), .int a1])).length) Slot.unset).toArray = ls at hl ⊢
  exact kM_there ⟨⟨B.exec, B.bytes, hml, findClass_of_methodNamed B.named, hts⟩, hK, B.returns, B.notSynchronized⟩ hO σ a1 s.heap [] ls ⟨hW, va_S.rf⟩ hl h
def wM_behind_L4 (post : Int32 → MS → Prop) : Nat → MS → Int32 → Int32 → Int32 → Prop
  | 0, _, _, _, _ => False
  | n + 1, σ, x1, x2, x3 => ((σ 18 0) ≤ x3 → post x2 σ) ∧ (¬ ((σ 18 0) ≤ x3) → (vp_in x3 16 ∧ ((((σ 21 x3.toNatClampNeg) = x1 → vp_in x3 16)) ∧ ∀ v8 : Int32, v8 = (if (σ 21 x3.toNatClampNeg) = x1 then if (σ 23 x3.toNatClampNeg) = 0 then 0 else 1 else 0) → (∀ x11 : Int32, x11 = x2 + v8 → ∀ x12 : Int32, x12 = x3 + 1 → wM_behind_L4 post n σ x1 x11 x12))))
def wM_behind (post : Int32 → MS → Prop) (σ : MS) (a1 : Int32) : Prop := ∃ n13, wM_behind_L4 post n13 σ a1 0 0
abbrev rM_behind : Room := { frames := 0, cells := 0, slots := 0, locals := 0 }
set_option maxHeartbeats 4000000 in
set_option maxRecDepth 100000 in
theorem kM_behind_L4 {p : Program} {l : Launch} {e : Env} {s : State} {m : MethodId} {args : Array Value} {below : List Frame} {meth : Method} {c : Code} {g : MG} {post : Int32 → MS → Prop} (F : gFx p s m c meth args cX3_behind 4 RX3 (some .int) (mD g) (mcl g) (mty g)) (hO : MOK g) : ∀ (n : Nat) (σ : MS) (x1 : Int32) (x2 : Int32) (x3 : Int32) (H : Heap) (locs : List Loc) (ls : Array Slot), gSt (MWd g) (MA g) s σ H locs → lv_has ls 4 [(0, .ref (mad g 62)), (1, .int x1), (2, .int x2), (3, .int x3)] → wM_behind_L4 post n σ x1 x2 x3 → W p l e rM_behind s m args below meth c H locs 0 0 (MQ below (va_Qi post (gB (MWd g)) (MA g)) args s 0 0 (MA g)) (F0 m 4 ls []) := by
  have hx := F.hx
  have hb := F.hb
  have hts := F.1.2.2.2.2
  have hown := F.1.2.2.2.1
  intro n
  induction n with
  | zero =>
    intro σ x1 x2 x3 H locs ls hS hl h
    exact False.elim h
  | succ n ih =>
    intro σ x1 x2 x3 H locs ls hS hl h
    rw [wM_behind_L4] at h
    refine lv_iload_n hx hb dX3_behind_4 rfl (lv_at hl 3 rfl) ?_
    refine lv_aload_n hx hb dX3_behind_5 rfl (lv_at hl 0 rfl) ?_
    refine m_geti F hO hS 18 (by decide) rfl q1415 dX3_behind_6 ?_
    refine lv_icmp_ge (tgt := 45) hx hb dX3_behind_9 (by decide) (fun c4 => ?_) (fun c4 => ?_)
    · have h := h.1 c4
      refine lv_iload_n hx hb dX3_behind_45 rfl (lv_at hl 2 rfl) ?_
      exact gw_iret F hS h dX3_behind_46
    · have h := h.2 c4
      refine lv_iload_n hx hb dX3_behind_12 rfl (lv_at hl 2 rfl) ?_
      refine lv_aload_n hx hb dX3_behind_13 rfl (lv_at hl 0 rfl) ?_
      refine m_geta F hO hS 21 (by decide) rfl q1418 dX3_behind_14 ?_
      refine lv_iload_n hx hb dX3_behind_17 rfl (lv_at hl 3 rfl) ?_
      obtain ⟨b5, h⟩ := h
      refine m_iald F hS 21 17 rfl rfl b5 dX3_behind_18 ?_
      refine lv_iload_n hx hb dX3_behind_19 rfl (lv_at hl 1 rfl) ?_
      obtain ⟨b9, h⟩ := h
      refine gcut (P := ∀ (v8 : Int32) (H : Heap) (locs : List Loc) (ls : Array Slot), v8 = (if (σ 21 x3.toNatClampNeg) = x1 then if (σ 23 x3.toNatClampNeg) = 0 then 0 else 1 else 0) → gSt (MWd g) (MA g) s σ H locs → lv_has ls 4 [(0, .ref (mad g 62)), (1, .int x1), (3, .int x3)] → W p l e rM_behind s m args below meth c H locs 0 0 (MQ below (va_Qi post (gB (MWd g)) (MA g)) args s 0 0 (MA g)) (F0 m 37 ls [.int v8, .int x2])) (fun v8 H locs ls ev8 hS hl => ?_) (fun J10 => ?_)
      · have h := h v8 ev8
        refine lv_iadd hx hb dX3_behind_37 ?_
        refine lv_topi (fun x11 ex11 => ?_)
        have h := h x11 ex11
        refine lv_istore_n (lv' := [(2, .int x11), (0, .ref (mad g 62)), (1, .int x1), (3, .int x3)]) hx hb dX3_behind_38 rfl hl (by decide) rfl (fun ls hl => ?_)
        obtain ⟨x12, ex12⟩ : ∃ y : Int32, y = x3 + 1 := ⟨_, rfl⟩
        have h := h x12 ex12
        refine lv_iinc (v := x12) (lv' := [(3, .int x12), (2, .int x11), (0, .ref (mad g 62)), (1, .int x1)]) hx hb dX3_behind_39 hl (k := 3) rfl (by rw [ex12]; rfl) (by decide) rfl (fun ls hl => ?_)
        refine lv_goto (tgt := 4) hx hb dX3_behind_42 (by decide) ?_
        exact ih σ x1 x11 x12 H locs ls hS (lv_sub hl [2, 3, 1, 0] rfl) h
      · refine lv_icmp_ne (tgt := 36) hx hb dX3_behind_20 (by decide) (fun c6 => ?_) (fun c6 => ?_)
        · refine lv_iconst (v := 0) hx hb dX3_behind_36 (by decide) ?_
          exact J10 _ H locs ls (by first | with_reducible rfl | ((try rw [if_neg c6]); done)) hS (lv_sub hl [0, 1, 3] rfl)
        · refine lv_aload_n hx hb dX3_behind_23 rfl (lv_at hl 0 rfl) ?_
          refine m_geta F hO hS 23 (by decide) rfl q1420 dX3_behind_24 ?_
          refine lv_iload_n hx hb dX3_behind_27 rfl (lv_at hl 3 rfl) ?_
          refine m_zald F hS 23 19 rfl rfl ((b9 c6)) dX3_behind_28 ?_
          refine lv_if_eq (tgt := 36) hx hb dX3_behind_29 (by decide) (fun c7 => ?_) (fun c7 => ?_)
          · refine lv_iconst (v := 0) hx hb dX3_behind_36 (by decide) ?_
            exact J10 _ H locs ls (by first | with_reducible rfl | ((try rw [if_pos c6]); (try rw [if_pos c7]); done)) hS (lv_sub hl [0, 1, 3] rfl)
          · refine lv_iconst (v := 1) hx hb dX3_behind_32 (by decide) ?_
            refine lv_goto (tgt := 37) hx hb dX3_behind_33 (by decide) ?_
            exact J10 _ H locs ls (by first | with_reducible rfl | ((try rw [if_pos c6]); (try rw [if_neg c7]); done)) hS (lv_sub hl [0, 1, 3] rfl)
set_option maxHeartbeats 4000000 in
set_option maxRecDepth 100000 in
theorem kM_behind {p : Program} {l : Launch} {e : Env} {s : State} {m : MethodId} {args : Array Value} {below : List Frame} {meth : Method} {c : Code} {g : MG} {post : Int32 → MS → Prop} (F : gFx p s m c meth args cX3_behind 4 RX3 (some .int) (mD g) (mcl g) (mty g)) (hO : MOK g) (σ : MS) (a1 : Int32) (H : Heap) (locs : List Loc) (ls : Array Slot) (hS : gSt (MWd g) (MA g) s σ H locs) (hl : lv_has ls 4 [(0, .ref (mad g 62)), (1, .int a1)]) (h : wM_behind post σ a1) : W p l e rM_behind s m args below meth c H locs 0 0 (MQ below (va_Qi post (gB (MWd g)) (MA g)) args s 0 0 (MA g)) (F0 m 0 ls []) := by
  have hx := F.hx
  have hb := F.hb
  have hts := F.1.2.2.2.2
  have hown := F.1.2.2.2.1
  rw [wM_behind] at h
  refine lv_iconst (v := 0) hx hb dX3_behind_0 (by decide) ?_
  refine lv_istore_n (lv' := [(2, .int 0), (0, .ref (mad g 62)), (1, .int a1)]) hx hb dX3_behind_1 rfl hl (by decide) rfl (fun ls hl => ?_)
  refine lv_iconst (v := 0) hx hb dX3_behind_2 (by decide) ?_
  refine lv_istore_n (lv' := [(3, .int 0), (2, .int 0), (0, .ref (mad g 62)), (1, .int a1)]) hx hb dX3_behind_3 rfl hl (by decide) rfl (fun ls hl => ?_)
  obtain ⟨n13, h⟩ := h
  exact (kM_behind_L4 F hO n13) σ a1 0 0 H locs ls hS (lv_sub hl [2, 3, 1, 0] rfl) h
set_option maxHeartbeats 4000000 in
set_option maxRecDepth 100000 in
theorem tM_behind (l : Launch) (g : MG) (hO : MOK g) (σ : MS) (a1 : Int32) (post : Int32 → MS → Prop) (h : wM_behind post σ a1) : Met l yX3_behind (ws_ yX3_behind cX3_behind 4 (some .int)) rM_behind (va_Pc [.ref (mad g 62), .int a1] (gPre (MWd g) (mD g) (mcl g) (mty g) σ)) (va_Qi post (gB (MWd g)) (MA g)) 0 0 (MA g) := by
  refine Met.ofW (cc := cX3_behind) (maxL := 4) (ret := (some .int)) (by decide) rfl ?_
  intro p e s m args below meth c s₁ B hml hv
  obtain ⟨rfl, hW, hK⟩ := hv
  have hts := atoms_spec (ws := (ws_ yX3_behind cX3_behind 4 (some .int))) B.pre
  have hts : ∀ w ∈ lw_all, w.before _ s = true := fun w h => hts w (List.mem_cons_of_mem _ h)
  have hl := lv_entry ([.ref (mad g 62), .int a1]) (n := 4) (Nat.le_of_ble_eq_true rfl)
  rw [lg_entry_eq]
  generalize (lg_sl ([.ref (mad g 62), .int a1]) ++ List.replicate (4 - (lg_sl ([.ref (mad g 62), .int a1])).length) Slot.unset).toArray = ls at hl ⊢
  exact kM_behind ⟨⟨B.exec, B.bytes, hml, findClass_of_methodNamed B.named, hts⟩, hK, B.returns, B.notSynchronized⟩ hO σ a1 s.heap [] ls ⟨hW, va_S.rf⟩ hl h
def wM_coming (post : Int32 → MS → Prop) (σ : MS) (a1 : Int32) : Prop := wM_there (fun r2 s1 => post r2 s1) σ ((100 : Int32) + a1)
abbrev rM_coming : Room := { frames := 1, cells := 0, slots := 0, locals := 23 }
set_option maxHeartbeats 4000000 in
set_option maxRecDepth 100000 in
theorem kM_coming {p : Program} {l : Launch} {e : Env} {s : State} {m : MethodId} {args : Array Value} {below : List Frame} {meth : Method} {c : Code} {g : MG} {post : Int32 → MS → Prop} (F : gFx p s m c meth args cX3_coming 2 RX3 (some .int) (mD g) (mcl g) (mty g)) (hO : MOK g) (σ : MS) (a1 : Int32) (H : Heap) (locs : List Loc) (ls : Array Slot) (hS : gSt (MWd g) (MA g) s σ H locs) (hl : lv_has ls 2 [(0, .ref (mad g 62)), (1, .int a1)]) (h : wM_coming post σ a1) : W p l e rM_coming s m args below meth c H locs 0 0 (MQ below (va_Qi post (gB (MWd g)) (MA g)) args s 0 0 (MA g)) (F0 m 0 ls []) := by
  have hx := F.hx
  have hb := F.hb
  have hts := F.1.2.2.2.2
  have hown := F.1.2.2.2.1
  rw [wM_coming] at h
  refine lv_aload_n hx hb dX3_coming_0 rfl (lv_at hl 0 rfl) ?_
  refine lv_bipush (v := 100) hx hb dX3_coming_1 (by decide) ?_
  refine lv_iload_n hx hb dX3_coming_3 rfl (lv_at hl 1 rfl) ?_
  refine lv_iadd hx hb dX3_coming_4 ?_
  refine gw_callVi (As := [.int ((100 : Int32) + a1)]) (rest := []) F hS (tM_there l g hO σ ((100 : Int32) + a1) _ h) (cwV 1 hts (lw_V q1681 q1683 qs46 q90 q1684) rfl rfl rfl (by decide +kernel) ⟨Nat.le_of_ble_eq_true rfl, Nat.le_of_ble_eq_true rfl⟩) (m_rec F hO hS) rfl hl.1 rfl (Nat.le_of_ble_eq_true rfl) dX3_coming_5 ⟨Nat.le_refl 0, Nat.le_refl 0⟩ (fun r2 s1 H locs h hS => ?_)
  exact gw_iret F hS h dX3_coming_8
set_option maxHeartbeats 4000000 in
set_option maxRecDepth 100000 in
theorem tM_coming (l : Launch) (g : MG) (hO : MOK g) (σ : MS) (a1 : Int32) (post : Int32 → MS → Prop) (h : wM_coming post σ a1) : Met l yX3_coming (ws_ yX3_coming cX3_coming 2 (some .int)) rM_coming (va_Pc [.ref (mad g 62), .int a1] (gPre (MWd g) (mD g) (mcl g) (mty g) σ)) (va_Qi post (gB (MWd g)) (MA g)) 0 0 (MA g) := by
  refine Met.ofW (cc := cX3_coming) (maxL := 2) (ret := (some .int)) (by decide) rfl ?_
  intro p e s m args below meth c s₁ B hml hv
  obtain ⟨rfl, hW, hK⟩ := hv
  have hts := atoms_spec (ws := (ws_ yX3_coming cX3_coming 2 (some .int))) B.pre
  have hts : ∀ w ∈ lw_all, w.before _ s = true := fun w h => hts w (List.mem_cons_of_mem _ h)
  have hl := lv_entry ([.ref (mad g 62), .int a1]) (n := 2) (Nat.le_of_ble_eq_true rfl)
  rw [lg_entry_eq]
  generalize (lg_sl ([.ref (mad g 62), .int a1]) ++ List.replicate (2 - (lg_sl ([.ref (mad g 62), .int a1])).length) Slot.unset).toArray = ls at hl ⊢
  exact kM_coming ⟨⟨B.exec, B.bytes, hml, findClass_of_methodNamed B.named, hts⟩, hK, B.returns, B.notSynchronized⟩ hO σ a1 s.heap [] ls ⟨hW, va_S.rf⟩ hl h
def wM_hasBeds (post : Int32 → MS → Prop) (σ : MS) (a1 : Int32) (a2 : Int32) : Prop := (vp_in a1 16 ∧ ((σ 2 a1.toNatClampNeg) = 0 → post 1 σ) ∧ (¬ ((σ 2 a1.toNatClampNeg) = 0) → wM_there (fun r4 s3 => wM_behind (fun r6 s5 => wM_coming (fun r8 s7 => (vp_in a1 16 ∧ (∀ v11 : Int32, v11 = (if (s7 4 a1.toNatClampNeg) < (((r4 - r6) + r8) + a2) then 0 else 1) → post v11 s7))) s5 a1) s3 a1) σ a1))
abbrev rM_hasBeds : Room := { frames := 2, cells := 0, slots := 0, locals := 44 }
set_option maxHeartbeats 4000000 in
set_option maxRecDepth 100000 in
theorem kM_hasBeds {p : Program} {l : Launch} {e : Env} {s : State} {m : MethodId} {args : Array Value} {below : List Frame} {meth : Method} {c : Code} {g : MG} {post : Int32 → MS → Prop} (F : gFx p s m c meth args cX3_hasBeds 3 RX3 (some .boolean) (mD g) (mcl g) (mty g)) (hO : MOK g) (σ : MS) (a1 : Int32) (a2 : Int32) (H : Heap) (locs : List Loc) (ls : Array Slot) (hS : gSt (MWd g) (MA g) s σ H locs) (hl : lv_has ls 3 [(0, .ref (mad g 62)), (1, .int a1), (2, .int a2)]) (h : wM_hasBeds post σ a1 a2) : W p l e rM_hasBeds s m args below meth c H locs 0 0 (MQ below (va_Qi (zpost post) (gB (MWd g)) (MA g)) args s 0 0 (MA g)) (F0 m 0 ls []) := by
  have hx := F.hx
  have hb := F.hb
  have hts := F.1.2.2.2.2
  have hown := F.1.2.2.2.1
  rw [wM_hasBeds] at h
  refine lv_aload_n hx hb dX3_hasBeds_0 rfl (lv_at hl 0 rfl) ?_
  refine m_geta F hO hS 2 (by decide) rfl q1399 dX3_hasBeds_1 ?_
  refine lv_iload_n hx hb dX3_hasBeds_4 rfl (lv_at hl 1 rfl) ?_
  obtain ⟨b1, h⟩ := h
  refine m_iald F hS 2 0 rfl rfl b1 dX3_hasBeds_5 ?_
  refine lv_if_eq (tgt := 37) hx hb dX3_hasBeds_6 (by decide) (fun c2 => ?_) (fun c2 => ?_)
  · have h := h.1 c2
    refine lv_iconst (v := 1) hx hb dX3_hasBeds_37 (by decide) ?_
    refine lv_goto (tgt := 42) hx hb dX3_hasBeds_38 (by decide) ?_
    exact gw_zret F hS bz1 h dX3_hasBeds_42
  · have h := h.2 c2
    refine lv_aload_n hx hb dX3_hasBeds_9 rfl (lv_at hl 0 rfl) ?_
    refine lv_iload_n hx hb dX3_hasBeds_10 rfl (lv_at hl 1 rfl) ?_
    refine gw_callVi (As := [.int a1]) (rest := []) F hS (tM_there l g hO σ a1 _ h) (cwV 1 hts (lw_V q1681 q1683 qs46 q90 q1684) rfl rfl rfl (by decide +kernel) ⟨Nat.le_of_ble_eq_true rfl, Nat.le_of_ble_eq_true rfl⟩) (m_rec F hO hS) rfl hl.1 rfl (Nat.le_of_ble_eq_true rfl) dX3_hasBeds_11 ⟨Nat.le_refl 0, Nat.le_refl 0⟩ (fun r4 s3 H locs h hS => ?_)
    refine lv_aload_n hx hb dX3_hasBeds_14 rfl (lv_at hl 0 rfl) ?_
    refine lv_iload_n hx hb dX3_hasBeds_15 rfl (lv_at hl 1 rfl) ?_
    refine gw_callVi (As := [.int a1]) (rest := [.int r4]) F hS (tM_behind l g hO s3 a1 _ h) (cwV 1 hts (lw_V q1685 q1687 qs47 q90 q1688) rfl rfl rfl (by decide +kernel) ⟨Nat.le_of_ble_eq_true rfl, Nat.le_of_ble_eq_true rfl⟩) (m_rec F hO hS) rfl hl.1 rfl (Nat.le_of_ble_eq_true rfl) dX3_hasBeds_16 ⟨Nat.le_refl 0, Nat.le_refl 0⟩ (fun r6 s5 H locs h hS => ?_)
    refine lv_isub hx hb dX3_hasBeds_19 ?_
    refine lv_aload_n hx hb dX3_hasBeds_20 rfl (lv_at hl 0 rfl) ?_
    refine lv_iload_n hx hb dX3_hasBeds_21 rfl (lv_at hl 1 rfl) ?_
    refine gw_callVi (As := [.int a1]) (rest := [.int (r4 - r6)]) F hS (tM_coming l g hO s5 a1 _ h) (cwV 1 hts (lw_V q1689 q1691 qs48 q90 q1692) rfl rfl rfl (by decide +kernel) ⟨Nat.le_of_ble_eq_true rfl, Nat.le_of_ble_eq_true rfl⟩) (m_rec F hO hS) rfl hl.1 rfl (Nat.le_of_ble_eq_true rfl) dX3_hasBeds_22 ⟨Nat.le_refl 0, Nat.le_refl 0⟩ (fun r8 s7 H locs h hS => ?_)
    refine lv_iadd hx hb dX3_hasBeds_25 ?_
    refine lv_iload_n hx hb dX3_hasBeds_26 rfl (lv_at hl 2 rfl) ?_
    refine lv_iadd hx hb dX3_hasBeds_27 ?_
    refine lv_aload_n hx hb dX3_hasBeds_28 rfl (lv_at hl 0 rfl) ?_
    refine m_geta F hO hS 4 (by decide) rfl q1401 dX3_hasBeds_29 ?_
    refine lv_iload_n hx hb dX3_hasBeds_32 rfl (lv_at hl 1 rfl) ?_
    obtain ⟨b9, h⟩ := h
    refine m_iald F hS 4 2 rfl rfl b9 dX3_hasBeds_33 ?_
    refine gcut (P := ∀ (v11 : Int32) (H : Heap) (locs : List Loc) (ls : Array Slot), v11 = (if (s7 4 a1.toNatClampNeg) < (((r4 - r6) + r8) + a2) then 0 else 1) → gSt (MWd g) (MA g) s s7 H locs → lv_has ls 3 [] → W p l e rM_hasBeds s m args below meth c H locs 0 0 (MQ below (va_Qi (zpost post) (gB (MWd g)) (MA g)) args s 0 0 (MA g)) (F0 m 42 ls [.int v11])) (fun v11 H locs ls ev11 hS hl => ?_) (fun J12 => ?_)
    · have h := h v11 ev11
      exact gw_zret F hS (by rw [ev11]; exact (bz_ite bz0 bz1)) h dX3_hasBeds_42
    · refine lv_icmp_gt (tgt := 41) hx hb dX3_hasBeds_34 (by decide) (fun c10 => ?_) (fun c10 => ?_)
      · refine lv_iconst (v := 0) hx hb dX3_hasBeds_41 (by decide) ?_
        exact J12 _ H locs ls (by first | with_reducible rfl | ((try rw [if_pos c10]); done)) hS (lv_sub hl [] rfl)
      · refine lv_iconst (v := 1) hx hb dX3_hasBeds_37 (by decide) ?_
        refine lv_goto (tgt := 42) hx hb dX3_hasBeds_38 (by decide) ?_
        exact J12 _ H locs ls (by first | with_reducible rfl | ((try rw [if_neg c10]); done)) hS (lv_sub hl [] rfl)
set_option maxHeartbeats 4000000 in
set_option maxRecDepth 100000 in
theorem tM_hasBeds (l : Launch) (g : MG) (hO : MOK g) (σ : MS) (a1 : Int32) (a2 : Int32) (post : Int32 → MS → Prop) (h : wM_hasBeds post σ a1 a2) : Met l yX3_hasBeds (ws_ yX3_hasBeds cX3_hasBeds 3 (some .boolean)) rM_hasBeds (va_Pc [.ref (mad g 62), .int a1, .int a2] (gPre (MWd g) (mD g) (mcl g) (mty g) σ)) (va_Qi (zpost post) (gB (MWd g)) (MA g)) 0 0 (MA g) := by
  refine Met.ofW (cc := cX3_hasBeds) (maxL := 3) (ret := (some .boolean)) (by decide) rfl ?_
  intro p e s m args below meth c s₁ B hml hv
  obtain ⟨rfl, hW, hK⟩ := hv
  have hts := atoms_spec (ws := (ws_ yX3_hasBeds cX3_hasBeds 3 (some .boolean))) B.pre
  have hts : ∀ w ∈ lw_all, w.before _ s = true := fun w h => hts w (List.mem_cons_of_mem _ h)
  have hl := lv_entry ([.ref (mad g 62), .int a1, .int a2]) (n := 3) (Nat.le_of_ble_eq_true rfl)
  rw [lg_entry_eq]
  generalize (lg_sl ([.ref (mad g 62), .int a1, .int a2]) ++ List.replicate (3 - (lg_sl ([.ref (mad g 62), .int a1, .int a2])).length) Slot.unset).toArray = ls at hl ⊢
  exact kM_hasBeds ⟨⟨B.exec, B.bytes, hml, findClass_of_methodNamed B.named, hts⟩, hK, B.returns, B.notSynchronized⟩ hO σ a1 a2 s.heap [] ls ⟨hW, va_S.rf⟩ hl h
def wM_bitsKnown (post : Int32 → MS → Prop) (σ : MS) (a1 : Int32) : Prop := (vp_in a1 16 ∧ (((¬ ((σ 2 a1.toNatClampNeg) = 0) → vp_in a1 16)) ∧ ∀ v3 : Int32, v3 = (if (σ 2 a1.toNatClampNeg) = 0 then 0 else σ 8 a1.toNatClampNeg) → post v3 σ))
abbrev rM_bitsKnown : Room := { frames := 0, cells := 0, slots := 0, locals := 0 }
set_option maxHeartbeats 4000000 in
set_option maxRecDepth 100000 in
theorem kM_bitsKnown {p : Program} {l : Launch} {e : Env} {s : State} {m : MethodId} {args : Array Value} {below : List Frame} {meth : Method} {c : Code} {g : MG} {post : Int32 → MS → Prop} (F : gFx p s m c meth args cX3_bitsKnown 2 RX3 (some .int) (mD g) (mcl g) (mty g)) (hO : MOK g) (σ : MS) (a1 : Int32) (H : Heap) (locs : List Loc) (ls : Array Slot) (hS : gSt (MWd g) (MA g) s σ H locs) (hl : lv_has ls 2 [(0, .ref (mad g 62)), (1, .int a1)]) (h : wM_bitsKnown post σ a1) : W p l e rM_bitsKnown s m args below meth c H locs 0 0 (MQ below (va_Qi post (gB (MWd g)) (MA g)) args s 0 0 (MA g)) (F0 m 0 ls []) := by
  have hx := F.hx
  have hb := F.hb
  have hts := F.1.2.2.2.2
  have hown := F.1.2.2.2.1
  rw [wM_bitsKnown] at h
  refine lv_aload_n hx hb dX3_bitsKnown_0 rfl (lv_at hl 0 rfl) ?_
  refine m_geta F hO hS 2 (by decide) rfl q1399 dX3_bitsKnown_1 ?_
  refine lv_iload_n hx hb dX3_bitsKnown_4 rfl (lv_at hl 1 rfl) ?_
  obtain ⟨b1, h⟩ := h
  refine m_iald F hS 2 0 rfl rfl b1 dX3_bitsKnown_5 ?_
  obtain ⟨b4, h⟩ := h
  refine gcut (P := ∀ (v3 : Int32) (H : Heap) (locs : List Loc) (ls : Array Slot), v3 = (if (σ 2 a1.toNatClampNeg) = 0 then 0 else σ 8 a1.toNatClampNeg) → gSt (MWd g) (MA g) s σ H locs → lv_has ls 2 [] → W p l e rM_bitsKnown s m args below meth c H locs 0 0 (MQ below (va_Qi post (gB (MWd g)) (MA g)) args s 0 0 (MA g)) (F0 m 19 ls [.int v3])) (fun v3 H locs ls ev3 hS hl => ?_) (fun J5 => ?_)
  · have h := h v3 ev3
    exact gw_iret F hS h dX3_bitsKnown_19
  · refine lv_if_ne (tgt := 13) hx hb dX3_bitsKnown_6 (by decide) (fun c2 => ?_) (fun c2 => ?_)
    · refine lv_aload_n hx hb dX3_bitsKnown_13 rfl (lv_at hl 0 rfl) ?_
      refine m_geta F hO hS 8 (by decide) rfl q1405 dX3_bitsKnown_14 ?_
      refine lv_iload_n hx hb dX3_bitsKnown_17 rfl (lv_at hl 1 rfl) ?_
      refine m_iald F hS 8 6 rfl rfl ((b4 c2)) dX3_bitsKnown_18 ?_
      exact J5 _ H locs ls (by first | with_reducible rfl | ((try rw [if_neg c2]); done)) hS (lv_sub hl [] rfl)
    · refine lv_iconst (v := 0) hx hb dX3_bitsKnown_9 (by decide) ?_
      refine lv_goto (tgt := 19) hx hb dX3_bitsKnown_10 (by decide) ?_
      exact J5 _ H locs ls (by first | with_reducible rfl | ((try rw [if_pos c2]); done)) hS (lv_sub hl [] rfl)
set_option maxHeartbeats 4000000 in
set_option maxRecDepth 100000 in
theorem tM_bitsKnown (l : Launch) (g : MG) (hO : MOK g) (σ : MS) (a1 : Int32) (post : Int32 → MS → Prop) (h : wM_bitsKnown post σ a1) : Met l yX3_bitsKnown (ws_ yX3_bitsKnown cX3_bitsKnown 2 (some .int)) rM_bitsKnown (va_Pc [.ref (mad g 62), .int a1] (gPre (MWd g) (mD g) (mcl g) (mty g) σ)) (va_Qi post (gB (MWd g)) (MA g)) 0 0 (MA g) := by
  refine Met.ofW (cc := cX3_bitsKnown) (maxL := 2) (ret := (some .int)) (by decide) rfl ?_
  intro p e s m args below meth c s₁ B hml hv
  obtain ⟨rfl, hW, hK⟩ := hv
  have hts := atoms_spec (ws := (ws_ yX3_bitsKnown cX3_bitsKnown 2 (some .int))) B.pre
  have hts : ∀ w ∈ lw_all, w.before _ s = true := fun w h => hts w (List.mem_cons_of_mem _ h)
  have hl := lv_entry ([.ref (mad g 62), .int a1]) (n := 2) (Nat.le_of_ble_eq_true rfl)
  rw [lg_entry_eq]
  generalize (lg_sl ([.ref (mad g 62), .int a1]) ++ List.replicate (2 - (lg_sl ([.ref (mad g 62), .int a1])).length) Slot.unset).toArray = ls at hl ⊢
  exact kM_bitsKnown ⟨⟨B.exec, B.bytes, hml, findClass_of_methodNamed B.named, hts⟩, hK, B.returns, B.notSynchronized⟩ hO σ a1 s.heap [] ls ⟨hW, va_S.rf⟩ hl h
def wM_place (post : Int32 → MS → Prop) (σ : MS) (a1 : Int32) (a2 : Int32) : Prop := wM_isPlace (fun r2 s1 => (¬ (r2 = 0) → (a2 = 0 → (vp_in a1 16 ∧ post (s1 2 a1.toNatClampNeg) s1)) ∧ (a2 = 1 → (vp_in a1 16 ∧ post (s1 3 a1.toNatClampNeg) s1)) ∧ (a2 = 2 → (vp_in a1 16 ∧ post (s1 4 a1.toNatClampNeg) s1)) ∧ (a2 = 3 → wM_there (fun r12 s11 => post r12 s11) s1 a1) ∧ (a2 = 4 → wM_behind (fun r15 s14 => post r15 s14) s1 a1) ∧ (a2 = 5 → wM_coming (fun r18 s17 => post r18 s17) s1 a1) ∧ (a2 = 6 → wM_bitsKnown (fun r21 s20 => post r21 s20) s1 a1) ∧ (¬ a2 = 0 → ¬ a2 = 1 → ¬ a2 = 2 → ¬ a2 = 3 → ¬ a2 = 4 → ¬ a2 = 5 → ¬ a2 = 6 → post (-1) s1)) ∧ (r2 = 0 → post (-1) s1)) σ a1
abbrev rM_place : Room := { frames := 2, cells := 0, slots := 0, locals := 46 }
set_option maxHeartbeats 4000000 in
set_option maxRecDepth 100000 in
theorem kM_place {p : Program} {l : Launch} {e : Env} {s : State} {m : MethodId} {args : Array Value} {below : List Frame} {meth : Method} {c : Code} {g : MG} {post : Int32 → MS → Prop} (F : gFx p s m c meth args cX3_place 3 RX3 (some .int) (mD g) (mcl g) (mty g)) (hO : MOK g) (σ : MS) (a1 : Int32) (a2 : Int32) (H : Heap) (locs : List Loc) (ls : Array Slot) (hS : gSt (MWd g) (MA g) s σ H locs) (hl : lv_has ls 3 [(0, .ref (mad g 62)), (1, .int a1), (2, .int a2)]) (h : wM_place post σ a1 a2) : W p l e rM_place s m args below meth c H locs 0 0 (MQ below (va_Qi post (gB (MWd g)) (MA g)) args s 0 0 (MA g)) (F0 m 0 ls []) := by
  have hx := F.hx
  have hb := F.hb
  have hts := F.1.2.2.2.2
  have hown := F.1.2.2.2.1
  rw [wM_place] at h
  refine lv_aload_n hx hb dX3_place_0 rfl (lv_at hl 0 rfl) ?_
  refine lv_iload_n hx hb dX3_place_1 rfl (lv_at hl 1 rfl) ?_
  refine gw_callVi (As := [.int a1]) (rest := []) F hS (tM_isPlace l g hO σ a1 _ h) (cwV 1 hts (lw_V q1618 q1620 qs40 q90 q1621) rfl rfl rfl (by decide +kernel) ⟨Nat.le_of_ble_eq_true rfl, Nat.le_of_ble_eq_true rfl⟩) (m_rec F hO hS) rfl hl.1 rfl (Nat.le_of_ble_eq_true rfl) dX3_place_2 ⟨Nat.le_refl 0, Nat.le_refl 0⟩ (fun r2 s1 H locs h hS => ?_)
  obtain ⟨zr2, h⟩ := h
  refine lv_if_ne (tgt := 10) hx hb dX3_place_5 (by decide) (fun c3 => ?_) (fun c3 => ?_)
  · have h := h.1 c3
    refine lv_iload_n hx hb dX3_place_10 rfl (lv_at hl 2 rfl) ?_
    by_cases c4 : a2 = 0
    · have h := h.1 c4
      refine lv_tableIn (off := 41) (tgt := 52) hx hb dX3_place_11 (by rw [c4]; decide) (by rw [c4]; decide) (by rw [c4]; rfl) (by decide) ?_
      refine lv_aload_n hx hb dX3_place_52 rfl (lv_at hl 0 rfl) ?_
      refine m_geta F hO hS 2 (by decide) rfl q1399 dX3_place_53 ?_
      refine lv_iload_n hx hb dX3_place_56 rfl (lv_at hl 1 rfl) ?_
      obtain ⟨b5, h⟩ := h
      refine m_iald F hS 2 0 rfl rfl b5 dX3_place_57 ?_
      exact gw_iret F hS h dX3_place_58
    have h := h.2
    by_cases c6 : a2 = 1
    · have h := h.1 c6
      refine lv_tableIn (off := 48) (tgt := 59) hx hb dX3_place_11 (by rw [c6]; decide) (by rw [c6]; decide) (by rw [c6]; rfl) (by decide) ?_
      refine lv_aload_n hx hb dX3_place_59 rfl (lv_at hl 0 rfl) ?_
      refine m_geta F hO hS 3 (by decide) rfl q1400 dX3_place_60 ?_
      refine lv_iload_n hx hb dX3_place_63 rfl (lv_at hl 1 rfl) ?_
      obtain ⟨b7, h⟩ := h
      refine m_iald F hS 3 1 rfl rfl b7 dX3_place_64 ?_
      exact gw_iret F hS h dX3_place_65
    have h := h.2
    by_cases c8 : a2 = 2
    · have h := h.1 c8
      refine lv_tableIn (off := 55) (tgt := 66) hx hb dX3_place_11 (by rw [c8]; decide) (by rw [c8]; decide) (by rw [c8]; rfl) (by decide) ?_
      refine lv_aload_n hx hb dX3_place_66 rfl (lv_at hl 0 rfl) ?_
      refine m_geta F hO hS 4 (by decide) rfl q1401 dX3_place_67 ?_
      refine lv_iload_n hx hb dX3_place_70 rfl (lv_at hl 1 rfl) ?_
      obtain ⟨b9, h⟩ := h
      refine m_iald F hS 4 2 rfl rfl b9 dX3_place_71 ?_
      exact gw_iret F hS h dX3_place_72
    have h := h.2
    by_cases c10 : a2 = 3
    · have h := h.1 c10
      refine lv_tableIn (off := 62) (tgt := 73) hx hb dX3_place_11 (by rw [c10]; decide) (by rw [c10]; decide) (by rw [c10]; rfl) (by decide) ?_
      refine lv_aload_n hx hb dX3_place_73 rfl (lv_at hl 0 rfl) ?_
      refine lv_iload_n hx hb dX3_place_74 rfl (lv_at hl 1 rfl) ?_
      refine gw_callVi (As := [.int a1]) (rest := []) F hS (tM_there l g hO s1 a1 _ h) (cwV 1 hts (lw_V q1681 q1683 qs46 q90 q1684) rfl rfl rfl (by decide +kernel) ⟨Nat.le_of_ble_eq_true rfl, Nat.le_of_ble_eq_true rfl⟩) (m_rec F hO hS) rfl hl.1 rfl (Nat.le_of_ble_eq_true rfl) dX3_place_75 ⟨Nat.le_refl 0, Nat.le_refl 0⟩ (fun r12 s11 H locs h hS => ?_)
      exact gw_iret F hS h dX3_place_78
    have h := h.2
    by_cases c13 : a2 = 4
    · have h := h.1 c13
      refine lv_tableIn (off := 68) (tgt := 79) hx hb dX3_place_11 (by rw [c13]; decide) (by rw [c13]; decide) (by rw [c13]; rfl) (by decide) ?_
      refine lv_aload_n hx hb dX3_place_79 rfl (lv_at hl 0 rfl) ?_
      refine lv_iload_n hx hb dX3_place_80 rfl (lv_at hl 1 rfl) ?_
      refine gw_callVi (As := [.int a1]) (rest := []) F hS (tM_behind l g hO s1 a1 _ h) (cwV 1 hts (lw_V q1685 q1687 qs47 q90 q1688) rfl rfl rfl (by decide +kernel) ⟨Nat.le_of_ble_eq_true rfl, Nat.le_of_ble_eq_true rfl⟩) (m_rec F hO hS) rfl hl.1 rfl (Nat.le_of_ble_eq_true rfl) dX3_place_81 ⟨Nat.le_refl 0, Nat.le_refl 0⟩ (fun r15 s14 H locs h hS => ?_)
      exact gw_iret F hS h dX3_place_84
    have h := h.2
    by_cases c16 : a2 = 5
    · have h := h.1 c16
      refine lv_tableIn (off := 74) (tgt := 85) hx hb dX3_place_11 (by rw [c16]; decide) (by rw [c16]; decide) (by rw [c16]; rfl) (by decide) ?_
      refine lv_aload_n hx hb dX3_place_85 rfl (lv_at hl 0 rfl) ?_
      refine lv_iload_n hx hb dX3_place_86 rfl (lv_at hl 1 rfl) ?_
      refine gw_callVi (As := [.int a1]) (rest := []) F hS (tM_coming l g hO s1 a1 _ h) (cwV 1 hts (lw_V q1689 q1691 qs48 q90 q1692) rfl rfl rfl (by decide +kernel) ⟨Nat.le_of_ble_eq_true rfl, Nat.le_of_ble_eq_true rfl⟩) (m_rec F hO hS) rfl hl.1 rfl (Nat.le_of_ble_eq_true rfl) dX3_place_87 ⟨Nat.le_refl 0, Nat.le_refl 0⟩ (fun r18 s17 H locs h hS => ?_)
      exact gw_iret F hS h dX3_place_90
    have h := h.2
    by_cases c19 : a2 = 6
    · have h := h.1 c19
      refine lv_tableIn (off := 80) (tgt := 91) hx hb dX3_place_11 (by rw [c19]; decide) (by rw [c19]; decide) (by rw [c19]; rfl) (by decide) ?_
      refine lv_aload_n hx hb dX3_place_91 rfl (lv_at hl 0 rfl) ?_
      refine lv_iload_n hx hb dX3_place_92 rfl (lv_at hl 1 rfl) ?_
      refine gw_callVi (As := [.int a1]) (rest := []) F hS (tM_bitsKnown l g hO s1 a1 _ h) (cwV 1 hts (lw_V q1693 q1695 qs49 q90 q1696) rfl rfl rfl (by decide +kernel) ⟨Nat.le_of_ble_eq_true rfl, Nat.le_of_ble_eq_true rfl⟩) (m_rec F hO hS) rfl hl.1 rfl (Nat.le_of_ble_eq_true rfl) dX3_place_93 ⟨Nat.le_refl 0, Nat.le_refl 0⟩ (fun r21 s20 H locs h hS => ?_)
      exact gw_iret F hS h dX3_place_96
    have h := h.2
    have h := h c4 c6 c8 c10 c13 c16 c19
    have c4 := lv_neT (a := 0) c4 (by decide)
    have c6 := lv_neT (a := 1) c6 (by decide)
    have c8 := lv_neT (a := 2) c8 (by decide)
    have c10 := lv_neT (a := 3) c10 (by decide)
    have c13 := lv_neT (a := 4) c13 (by decide)
    have c16 := lv_neT (a := 5) c16 (by decide)
    have c19 := lv_neT (a := 6) c19 (by decide)
    refine lv_tableOut (tgt := 97) hx hb dX3_place_11 (by omega) (by decide) ?_
    refine lv_iconst (v := (-1)) hx hb dX3_place_97 (by decide) ?_
    exact gw_iret F hS h dX3_place_98
  · have h := h.2 c3
    refine lv_iconst (v := (-1)) hx hb dX3_place_8 (by decide) ?_
    exact gw_iret F hS h dX3_place_9
set_option maxHeartbeats 4000000 in
set_option maxRecDepth 100000 in
theorem tM_place (l : Launch) (g : MG) (hO : MOK g) (σ : MS) (a1 : Int32) (a2 : Int32) (post : Int32 → MS → Prop) (h : wM_place post σ a1 a2) : Met l yX3_place (ws_ yX3_place cX3_place 3 (some .int)) rM_place (va_Pc [.ref (mad g 62), .int a1, .int a2] (gPre (MWd g) (mD g) (mcl g) (mty g) σ)) (va_Qi post (gB (MWd g)) (MA g)) 0 0 (MA g) := by
  refine Met.ofW (cc := cX3_place) (maxL := 3) (ret := (some .int)) (by decide) rfl ?_
  intro p e s m args below meth c s₁ B hml hv
  obtain ⟨rfl, hW, hK⟩ := hv
  have hts := atoms_spec (ws := (ws_ yX3_place cX3_place 3 (some .int))) B.pre
  have hts : ∀ w ∈ lw_all, w.before _ s = true := fun w h => hts w (List.mem_cons_of_mem _ h)
  have hl := lv_entry ([.ref (mad g 62), .int a1, .int a2]) (n := 3) (Nat.le_of_ble_eq_true rfl)
  rw [lg_entry_eq]
  generalize (lg_sl ([.ref (mad g 62), .int a1, .int a2]) ++ List.replicate (3 - (lg_sl ([.ref (mad g 62), .int a1, .int a2])).length) Slot.unset).toArray = ls at hl ⊢
  exact kM_place ⟨⟨B.exec, B.bytes, hml, findClass_of_methodNamed B.named, hts⟩, hK, B.returns, B.notSynchronized⟩ hO σ a1 a2 s.heap [] ls ⟨hW, va_S.rf⟩ hl h
def wM_comes (post : Int32 → MS → Prop) (σ : MS) (a1 : Int32) (a2 : Int32) (a3 : Int32) : Prop := (vp_in (σ 18 0) 16 ∧ ∀ s1 : MS, s1 = up2 σ 19 (σ 18 0).toNatClampNeg a1 → vp_in (s1 18 0) 16 ∧ ∀ s3 : MS, s3 = up2 s1 20 (s1 18 0).toNatClampNeg a3 → vp_in (s3 18 0) 16 ∧ ∀ s5 : MS, s5 = up2 s3 21 (s3 18 0).toNatClampNeg a2 → vp_in (s5 18 0) 16 ∧ ∀ s7 : MS, s7 = up2 s5 22 (s5 18 0).toNatClampNeg (-4) → vp_in (s7 18 0) 16 ∧ ∀ s9 : MS, s9 = up2 s7 23 (s7 18 0).toNatClampNeg 0 → vp_in (s9 18 0) 16 ∧ ∀ s11 : MS, s11 = up2 s9 24 (s9 18 0).toNatClampNeg (-1) → ∀ s13 : MS, s13 = up2 s11 18 0 ((s11 18 0) + 1) → post ((s13 18 0) - 1) s13)
abbrev rM_comes : Room := { frames := 0, cells := 0, slots := 0, locals := 0 }
set_option maxHeartbeats 4000000 in
set_option maxRecDepth 100000 in
theorem kM_comes {p : Program} {l : Launch} {e : Env} {s : State} {m : MethodId} {args : Array Value} {below : List Frame} {meth : Method} {c : Code} {g : MG} {post : Int32 → MS → Prop} (F : gFx p s m c meth args cX3_comes 4 RX3 (some .int) (mD g) (mcl g) (mty g)) (hO : MOK g) (σ : MS) (a1 : Int32) (a2 : Int32) (a3 : Int32) (H : Heap) (locs : List Loc) (ls : Array Slot) (hS : gSt (MWd g) (MA g) s σ H locs) (hl : lv_has ls 4 [(0, .ref (mad g 62)), (1, .int a1), (2, .int a2), (3, .int a3)]) (h : wM_comes post σ a1 a2 a3) : W p l e rM_comes s m args below meth c H locs 0 0 (MQ below (va_Qi post (gB (MWd g)) (MA g)) args s 0 0 (MA g)) (F0 m 0 ls []) := by
  have hx := F.hx
  have hb := F.hb
  have hts := F.1.2.2.2.2
  have hown := F.1.2.2.2.1
  rw [wM_comes] at h
  refine lv_aload_n hx hb dX3_comes_0 rfl (lv_at hl 0 rfl) ?_
  refine m_geta F hO hS 19 (by decide) rfl q1416 dX3_comes_1 ?_
  refine lv_aload_n hx hb dX3_comes_4 rfl (lv_at hl 0 rfl) ?_
  refine m_geti F hO hS 18 (by decide) rfl q1415 dX3_comes_5 ?_
  refine lv_iload_n hx hb dX3_comes_8 rfl (lv_at hl 1 rfl) ?_
  obtain ⟨b2, h⟩ := h
  refine m_iast F hO hS 19 15 rfl rfl b2 dX3_comes_9 (fun s1 es1 H locs hS => ?_)
  have h := h s1 es1
  refine lv_aload_n hx hb dX3_comes_10 rfl (lv_at hl 0 rfl) ?_
  refine m_geta F hO hS 20 (by decide) rfl q1417 dX3_comes_11 ?_
  refine lv_aload_n hx hb dX3_comes_14 rfl (lv_at hl 0 rfl) ?_
  refine m_geti F hO hS 18 (by decide) rfl q1415 dX3_comes_15 ?_
  refine lv_iload_n hx hb dX3_comes_18 rfl (lv_at hl 3 rfl) ?_
  obtain ⟨b4, h⟩ := h
  refine m_iast F hO hS 20 16 rfl rfl b4 dX3_comes_19 (fun s3 es3 H locs hS => ?_)
  have h := h s3 es3
  refine lv_aload_n hx hb dX3_comes_20 rfl (lv_at hl 0 rfl) ?_
  refine m_geta F hO hS 21 (by decide) rfl q1418 dX3_comes_21 ?_
  refine lv_aload_n hx hb dX3_comes_24 rfl (lv_at hl 0 rfl) ?_
  refine m_geti F hO hS 18 (by decide) rfl q1415 dX3_comes_25 ?_
  refine lv_iload_n hx hb dX3_comes_28 rfl (lv_at hl 2 rfl) ?_
  obtain ⟨b6, h⟩ := h
  refine m_iast F hO hS 21 17 rfl rfl b6 dX3_comes_29 (fun s5 es5 H locs hS => ?_)
  have h := h s5 es5
  refine lv_aload_n hx hb dX3_comes_30 rfl (lv_at hl 0 rfl) ?_
  refine m_geta F hO hS 22 (by decide) rfl q1419 dX3_comes_31 ?_
  refine lv_aload_n hx hb dX3_comes_34 rfl (lv_at hl 0 rfl) ?_
  refine m_geti F hO hS 18 (by decide) rfl q1415 dX3_comes_35 ?_
  refine lv_bipush (v := (-4)) hx hb dX3_comes_38 (by decide) ?_
  obtain ⟨b8, h⟩ := h
  refine m_iast F hO hS 22 18 rfl rfl b8 dX3_comes_40 (fun s7 es7 H locs hS => ?_)
  have h := h s7 es7
  refine lv_aload_n hx hb dX3_comes_41 rfl (lv_at hl 0 rfl) ?_
  refine m_geta F hO hS 23 (by decide) rfl q1420 dX3_comes_42 ?_
  refine lv_aload_n hx hb dX3_comes_45 rfl (lv_at hl 0 rfl) ?_
  refine m_geti F hO hS 18 (by decide) rfl q1415 dX3_comes_46 ?_
  refine lv_iconst (v := 0) hx hb dX3_comes_49 (by decide) ?_
  obtain ⟨b10, h⟩ := h
  refine m_zast F hO hS 23 19 rfl rfl b10 bz0 dX3_comes_50 (fun s9 es9 H locs hS => ?_)
  have h := h s9 es9
  refine lv_aload_n hx hb dX3_comes_51 rfl (lv_at hl 0 rfl) ?_
  refine m_geta F hO hS 24 (by decide) rfl q1421 dX3_comes_52 ?_
  refine lv_aload_n hx hb dX3_comes_55 rfl (lv_at hl 0 rfl) ?_
  refine m_geti F hO hS 18 (by decide) rfl q1415 dX3_comes_56 ?_
  refine lv_iconst (v := (-1)) hx hb dX3_comes_59 (by decide) ?_
  obtain ⟨b12, h⟩ := h
  refine m_iast F hO hS 24 20 rfl rfl b12 dX3_comes_60 (fun s11 es11 H locs hS => ?_)
  have h := h s11 es11
  refine lv_aload_n hx hb dX3_comes_61 rfl (lv_at hl 0 rfl) ?_
  refine lv_dup hx hb dX3_comes_62 rfl ?_
  refine m_geti F hO hS 18 (by decide) rfl q1415 dX3_comes_63 ?_
  refine lv_iconst (v := 1) hx hb dX3_comes_66 (by decide) ?_
  refine lv_iadd hx hb dX3_comes_67 ?_
  refine m_puti F hO hS 18 (by decide) rfl q1415 rfl (by decide +kernel) dX3_comes_68 (fun s13 es13 H locs hS => ?_)
  have h := h s13 es13
  refine lv_aload_n hx hb dX3_comes_71 rfl (lv_at hl 0 rfl) ?_
  refine m_geti F hO hS 18 (by decide) rfl q1415 dX3_comes_72 ?_
  refine lv_iconst (v := 1) hx hb dX3_comes_75 (by decide) ?_
  refine lv_isub hx hb dX3_comes_76 ?_
  exact gw_iret F hS h dX3_comes_77
set_option maxHeartbeats 4000000 in
set_option maxRecDepth 100000 in
theorem tM_comes (l : Launch) (g : MG) (hO : MOK g) (σ : MS) (a1 : Int32) (a2 : Int32) (a3 : Int32) (post : Int32 → MS → Prop) (h : wM_comes post σ a1 a2 a3) : Met l yX3_comes (ws_ yX3_comes cX3_comes 4 (some .int)) rM_comes (va_Pc [.ref (mad g 62), .int a1, .int a2, .int a3] (gPre (MWd g) (mD g) (mcl g) (mty g) σ)) (va_Qi post (gB (MWd g)) (MA g)) 0 0 (MA g) := by
  refine Met.ofW (cc := cX3_comes) (maxL := 4) (ret := (some .int)) (by decide) rfl ?_
  intro p e s m args below meth c s₁ B hml hv
  obtain ⟨rfl, hW, hK⟩ := hv
  have hts := atoms_spec (ws := (ws_ yX3_comes cX3_comes 4 (some .int))) B.pre
  have hts : ∀ w ∈ lw_all, w.before _ s = true := fun w h => hts w (List.mem_cons_of_mem _ h)
  have hl := lv_entry ([.ref (mad g 62), .int a1, .int a2, .int a3]) (n := 4) (Nat.le_of_ble_eq_true rfl)
  rw [lg_entry_eq]
  generalize (lg_sl ([.ref (mad g 62), .int a1, .int a2, .int a3]) ++ List.replicate (4 - (lg_sl ([.ref (mad g 62), .int a1, .int a2, .int a3])).length) Slot.unset).toArray = ls at hl ⊢
  exact kM_comes ⟨⟨B.exec, B.bytes, hml, findClass_of_methodNamed B.named, hts⟩, hK, B.returns, B.notSynchronized⟩ hO σ a1 a2 a3 s.heap [] ls ⟨hW, va_S.rf⟩ hl h
def wM_person (post : Int32 → MS → Prop) (σ : MS) (a1 : Int32) (a2 : Int32) : Prop := wM_in (fun r2 s1 => (r2 = 0 → post (-1) s1) ∧ (¬ (r2 = 0) → wM_isPlace (fun r5 s4 => (¬ (r5 = 0) → wM_hasBeds (fun r8 s7 => (¬ (r8 = 0) → (¬ ((s7 18 0) = 16) → wM_comes (fun r12 s11 => post r12 s11) s7 a1 a2 (-1)) ∧ ((s7 18 0) = 16 → post (-3) s7)) ∧ (r8 = 0 → post (-2) s7)) s4 a2 1) ∧ (r5 = 0 → post (-1) s4)) s1 a2)) σ a1.toInt64 1 9
abbrev rM_person : Room := { frames := 3, cells := 0, slots := 0, locals := 66 }
set_option maxHeartbeats 4000000 in
set_option maxRecDepth 100000 in
theorem kM_person {p : Program} {l : Launch} {e : Env} {s : State} {m : MethodId} {args : Array Value} {below : List Frame} {meth : Method} {c : Code} {g : MG} {post : Int32 → MS → Prop} (F : gFx p s m c meth args cX3_person 3 RX3 (some .int) (mD g) (mcl g) (mty g)) (hO : MOK g) (σ : MS) (a1 : Int32) (a2 : Int32) (H : Heap) (locs : List Loc) (ls : Array Slot) (hS : gSt (MWd g) (MA g) s σ H locs) (hl : lv_has ls 3 [(0, .ref (mad g 62)), (1, .int a1), (2, .int a2)]) (h : wM_person post σ a1 a2) : W p l e rM_person s m args below meth c H locs 0 0 (MQ below (va_Qi post (gB (MWd g)) (MA g)) args s 0 0 (MA g)) (F0 m 0 ls []) := by
  have hx := F.hx
  have hb := F.hb
  have hts := F.1.2.2.2.2
  have hown := F.1.2.2.2.1
  rw [wM_person] at h
  refine lv_iload_n hx hb dX3_person_0 rfl (lv_at hl 1 rfl) ?_
  refine lv_i2l hx hb dX3_person_1 rfl ?_
  refine lv_lconst (v := 1) hx hb dX3_person_2 (by decide) ?_
  refine lv_ldc2 (v := 9) hx hb hown (hts _ q1596) dX3_person_3 ?_
  refine gw_callSi (As := [.long a1.toInt64, .long 1, .long 9]) (rest := []) F hS (tM_in l g hO σ a1.toInt64 1 9 _ h) (va_cwS 3 hts (lw_S q1593 q1594 q90 q1595) rfl rfl rfl (by decide +kernel) ⟨Nat.le_of_ble_eq_true rfl, Nat.le_of_ble_eq_true rfl⟩) rfl hl.1 rfl (Nat.le_of_ble_eq_true rfl) dX3_person_6 ⟨Nat.le_refl 0, Nat.le_refl 0⟩ (fun r2 s1 H locs h hS => ?_)
  obtain ⟨zr2, h⟩ := h
  refine lv_if_eq (tgt := 20) hx hb dX3_person_9 (by decide) (fun c3 => ?_) (fun c3 => ?_)
  · have h := h.1 c3
    refine lv_iconst (v := (-1)) hx hb dX3_person_20 (by decide) ?_
    exact gw_iret F hS h dX3_person_21
  · have h := h.2 c3
    refine lv_aload_n hx hb dX3_person_12 rfl (lv_at hl 0 rfl) ?_
    refine lv_iload_n hx hb dX3_person_13 rfl (lv_at hl 2 rfl) ?_
    refine gw_callVi (As := [.int a2]) (rest := []) F hS (tM_isPlace l g hO s1 a2 _ h) (cwV 1 hts (lw_V q1618 q1620 qs40 q90 q1621) rfl rfl rfl (by decide +kernel) ⟨Nat.le_of_ble_eq_true rfl, Nat.le_of_ble_eq_true rfl⟩) (m_rec F hO hS) rfl hl.1 rfl (Nat.le_of_ble_eq_true rfl) dX3_person_14 ⟨Nat.le_refl 0, Nat.le_refl 0⟩ (fun r5 s4 H locs h hS => ?_)
    obtain ⟨zr5, h⟩ := h
    refine lv_if_ne (tgt := 22) hx hb dX3_person_17 (by decide) (fun c6 => ?_) (fun c6 => ?_)
    · have h := h.1 c6
      refine lv_aload_n hx hb dX3_person_22 rfl (lv_at hl 0 rfl) ?_
      refine lv_iload_n hx hb dX3_person_23 rfl (lv_at hl 2 rfl) ?_
      refine lv_iconst (v := 1) hx hb dX3_person_24 (by decide) ?_
      refine gw_callVi (As := [.int a2, .int 1]) (rest := []) F hS (tM_hasBeds l g hO s4 a2 1 _ h) (cwV 2 hts (lw_V q1701 q1703 qs50 q90 q1704) rfl rfl rfl (by decide +kernel) ⟨Nat.le_of_ble_eq_true rfl, Nat.le_of_ble_eq_true rfl⟩) (m_rec F hO hS) rfl hl.1 rfl (Nat.le_of_ble_eq_true rfl) dX3_person_25 ⟨Nat.le_refl 0, Nat.le_refl 0⟩ (fun r8 s7 H locs h hS => ?_)
      obtain ⟨zr8, h⟩ := h
      refine lv_if_ne (tgt := 34) hx hb dX3_person_28 (by decide) (fun c9 => ?_) (fun c9 => ?_)
      · have h := h.1 c9
        refine lv_aload_n hx hb dX3_person_34 rfl (lv_at hl 0 rfl) ?_
        refine m_geti F hO hS 18 (by decide) rfl q1415 dX3_person_35 ?_
        refine lv_bipush (v := 16) hx hb dX3_person_38 (by decide) ?_
        refine lv_icmp_ne (tgt := 48) hx hb dX3_person_40 (by decide) (fun c10 => ?_) (fun c10 => ?_)
        · have h := h.1 c10
          refine lv_aload_n hx hb dX3_person_48 rfl (lv_at hl 0 rfl) ?_
          refine lv_iload_n hx hb dX3_person_49 rfl (lv_at hl 1 rfl) ?_
          refine lv_iload_n hx hb dX3_person_50 rfl (lv_at hl 2 rfl) ?_
          refine lv_iconst (v := (-1)) hx hb dX3_person_51 (by decide) ?_
          refine gw_callVi (As := [.int a1, .int a2, .int (-1)]) (rest := []) F hS (tM_comes l g hO s7 a1 a2 (-1) _ h) (cwV 3 hts (lw_V q1705 q1707 qs51 q90 q1708) rfl rfl rfl (by decide +kernel) ⟨Nat.le_of_ble_eq_true rfl, Nat.le_of_ble_eq_true rfl⟩) (m_rec F hO hS) rfl hl.1 rfl (Nat.le_of_ble_eq_true rfl) dX3_person_52 ⟨Nat.le_refl 0, Nat.le_refl 0⟩ (fun r12 s11 H locs h hS => ?_)
          exact gw_iret F hS h dX3_person_55
        · have h := h.2 c10
          refine lv_bipush (v := (-3)) hx hb dX3_person_43 (by decide) ?_
          refine lv_goto (tgt := 55) hx hb dX3_person_45 (by decide) ?_
          exact gw_iret F hS h dX3_person_55
      · have h := h.2 c9
        refine lv_bipush (v := (-2)) hx hb dX3_person_31 (by decide) ?_
        exact gw_iret F hS h dX3_person_33
    · have h := h.2 c6
      refine lv_iconst (v := (-1)) hx hb dX3_person_20 (by decide) ?_
      exact gw_iret F hS h dX3_person_21
set_option maxHeartbeats 4000000 in
set_option maxRecDepth 100000 in
theorem tM_person (l : Launch) (g : MG) (hO : MOK g) (σ : MS) (a1 : Int32) (a2 : Int32) (post : Int32 → MS → Prop) (h : wM_person post σ a1 a2) : Met l yX3_person (ws_ yX3_person cX3_person 3 (some .int)) rM_person (va_Pc [.ref (mad g 62), .int a1, .int a2] (gPre (MWd g) (mD g) (mcl g) (mty g) σ)) (va_Qi post (gB (MWd g)) (MA g)) 0 0 (MA g) := by
  refine Met.ofW (cc := cX3_person) (maxL := 3) (ret := (some .int)) (by decide) rfl ?_
  intro p e s m args below meth c s₁ B hml hv
  obtain ⟨rfl, hW, hK⟩ := hv
  have hts := atoms_spec (ws := (ws_ yX3_person cX3_person 3 (some .int))) B.pre
  have hts : ∀ w ∈ lw_all, w.before _ s = true := fun w h => hts w (List.mem_cons_of_mem _ h)
  have hl := lv_entry ([.ref (mad g 62), .int a1, .int a2]) (n := 3) (Nat.le_of_ble_eq_true rfl)
  rw [lg_entry_eq]
  generalize (lg_sl ([.ref (mad g 62), .int a1, .int a2]) ++ List.replicate (3 - (lg_sl ([.ref (mad g 62), .int a1, .int a2])).length) Slot.unset).toArray = ls at hl ⊢
  exact kM_person ⟨⟨B.exec, B.bytes, hml, findClass_of_methodNamed B.named, hts⟩, hK, B.returns, B.notSynchronized⟩ hO σ a1 a2 s.heap [] ls ⟨hW, va_S.rf⟩ hl h
def wM_isAt (post : Int32 → MS → Prop) (σ : MS) (a1 : Int32) : Prop := (vp_in a1 16 ∧ (∀ v3 : Int32, v3 = (if 16 ≤ (σ 21 a1.toNatClampNeg) then 0 else 1) → post v3 σ))
abbrev rM_isAt : Room := { frames := 0, cells := 0, slots := 0, locals := 0 }
set_option maxHeartbeats 4000000 in
set_option maxRecDepth 100000 in
theorem kM_isAt {p : Program} {l : Launch} {e : Env} {s : State} {m : MethodId} {args : Array Value} {below : List Frame} {meth : Method} {c : Code} {g : MG} {post : Int32 → MS → Prop} (F : gFx p s m c meth args cX3_isAt 2 RX3 (some .boolean) (mD g) (mcl g) (mty g)) (hO : MOK g) (σ : MS) (a1 : Int32) (H : Heap) (locs : List Loc) (ls : Array Slot) (hS : gSt (MWd g) (MA g) s σ H locs) (hl : lv_has ls 2 [(0, .ref (mad g 62)), (1, .int a1)]) (h : wM_isAt post σ a1) : W p l e rM_isAt s m args below meth c H locs 0 0 (MQ below (va_Qi (zpost post) (gB (MWd g)) (MA g)) args s 0 0 (MA g)) (F0 m 0 ls []) := by
  have hx := F.hx
  have hb := F.hb
  have hts := F.1.2.2.2.2
  have hown := F.1.2.2.2.1
  rw [wM_isAt] at h
  refine lv_aload_n hx hb dX3_isAt_0 rfl (lv_at hl 0 rfl) ?_
  refine m_geta F hO hS 21 (by decide) rfl q1418 dX3_isAt_1 ?_
  refine lv_iload_n hx hb dX3_isAt_4 rfl (lv_at hl 1 rfl) ?_
  obtain ⟨b1, h⟩ := h
  refine m_iald F hS 21 17 rfl rfl b1 dX3_isAt_5 ?_
  refine lv_bipush (v := 16) hx hb dX3_isAt_6 (by decide) ?_
  refine gcut (P := ∀ (v3 : Int32) (H : Heap) (locs : List Loc) (ls : Array Slot), v3 = (if 16 ≤ (σ 21 a1.toNatClampNeg) then 0 else 1) → gSt (MWd g) (MA g) s σ H locs → lv_has ls 2 [] → W p l e rM_isAt s m args below meth c H locs 0 0 (MQ below (va_Qi (zpost post) (gB (MWd g)) (MA g)) args s 0 0 (MA g)) (F0 m 16 ls [.int v3])) (fun v3 H locs ls ev3 hS hl => ?_) (fun J4 => ?_)
  · have h := h v3 ev3
    exact gw_zret F hS (by rw [ev3]; exact (bz_ite bz0 bz1)) h dX3_isAt_16
  · refine lv_icmp_ge (tgt := 15) hx hb dX3_isAt_8 (by decide) (fun c2 => ?_) (fun c2 => ?_)
    · refine lv_iconst (v := 0) hx hb dX3_isAt_15 (by decide) ?_
      exact J4 _ H locs ls (by first | with_reducible rfl | ((try rw [if_pos c2]); done)) hS (lv_sub hl [] rfl)
    · refine lv_iconst (v := 1) hx hb dX3_isAt_11 (by decide) ?_
      refine lv_goto (tgt := 16) hx hb dX3_isAt_12 (by decide) ?_
      exact J4 _ H locs ls (by first | with_reducible rfl | ((try rw [if_neg c2]); done)) hS (lv_sub hl [] rfl)
set_option maxHeartbeats 4000000 in
set_option maxRecDepth 100000 in
theorem tM_isAt (l : Launch) (g : MG) (hO : MOK g) (σ : MS) (a1 : Int32) (post : Int32 → MS → Prop) (h : wM_isAt post σ a1) : Met l yX3_isAt (ws_ yX3_isAt cX3_isAt 2 (some .boolean)) rM_isAt (va_Pc [.ref (mad g 62), .int a1] (gPre (MWd g) (mD g) (mcl g) (mty g) σ)) (va_Qi (zpost post) (gB (MWd g)) (MA g)) 0 0 (MA g) := by
  refine Met.ofW (cc := cX3_isAt) (maxL := 2) (ret := (some .boolean)) (by decide) rfl ?_
  intro p e s m args below meth c s₁ B hml hv
  obtain ⟨rfl, hW, hK⟩ := hv
  have hts := atoms_spec (ws := (ws_ yX3_isAt cX3_isAt 2 (some .boolean))) B.pre
  have hts : ∀ w ∈ lw_all, w.before _ s = true := fun w h => hts w (List.mem_cons_of_mem _ h)
  have hl := lv_entry ([.ref (mad g 62), .int a1]) (n := 2) (Nat.le_of_ble_eq_true rfl)
  rw [lg_entry_eq]
  generalize (lg_sl ([.ref (mad g 62), .int a1]) ++ List.replicate (2 - (lg_sl ([.ref (mad g 62), .int a1])).length) Slot.unset).toArray = ls at hl ⊢
  exact kM_isAt ⟨⟨B.exec, B.bytes, hml, findClass_of_methodNamed B.named, hts⟩, hK, B.returns, B.notSynchronized⟩ hO σ a1 s.heap [] ls ⟨hW, va_S.rf⟩ hl h
def wM_child (post : Int32 → MS → Prop) (σ : MS) (a1 : Int32) (a2 : Int32) : Prop := wM_in (fun r2 s1 => (r2 = 0 → post (-1) s1) ∧ (¬ (r2 = 0) → wM_isPerson (fun r5 s4 => (r5 = 0 → post (-1) s4) ∧ (¬ (r5 = 0) → (vp_in a2 16 ∧ ((s4 20 a2.toNatClampNeg) < 0 → wM_isAt (fun r10 s9 => (r10 = 0 → post (-2) s9) ∧ (¬ (r10 = 0) → (vp_in a2 16 ∧ wM_hasBeds (fun r14 s13 => (¬ (r14 = 0) → (¬ ((s13 18 0) = 16) → (vp_in a2 16 ∧ wM_comes (fun r19 s18 => post r19 s18) s13 a1 (s13 21 a2.toNatClampNeg) a2)) ∧ ((s13 18 0) = 16 → post (-3) s13)) ∧ (r14 = 0 → post (-2) s13)) s9 (s9 21 a2.toNatClampNeg) 1))) s4 a2) ∧ (¬ ((s4 20 a2.toNatClampNeg) < 0) → post (-1) s4)))) s1 a2)) σ a1.toInt64 1 9
abbrev rM_child : Room := { frames := 3, cells := 0, slots := 0, locals := 66 }
set_option maxHeartbeats 4000000 in
set_option maxRecDepth 100000 in
theorem kM_child {p : Program} {l : Launch} {e : Env} {s : State} {m : MethodId} {args : Array Value} {below : List Frame} {meth : Method} {c : Code} {g : MG} {post : Int32 → MS → Prop} (F : gFx p s m c meth args cX3_child 3 RX3 (some .int) (mD g) (mcl g) (mty g)) (hO : MOK g) (σ : MS) (a1 : Int32) (a2 : Int32) (H : Heap) (locs : List Loc) (ls : Array Slot) (hS : gSt (MWd g) (MA g) s σ H locs) (hl : lv_has ls 3 [(0, .ref (mad g 62)), (1, .int a1), (2, .int a2)]) (h : wM_child post σ a1 a2) : W p l e rM_child s m args below meth c H locs 0 0 (MQ below (va_Qi post (gB (MWd g)) (MA g)) args s 0 0 (MA g)) (F0 m 0 ls []) := by
  have hx := F.hx
  have hb := F.hb
  have hts := F.1.2.2.2.2
  have hown := F.1.2.2.2.1
  rw [wM_child] at h
  refine lv_iload_n hx hb dX3_child_0 rfl (lv_at hl 1 rfl) ?_
  refine lv_i2l hx hb dX3_child_1 rfl ?_
  refine lv_lconst (v := 1) hx hb dX3_child_2 (by decide) ?_
  refine lv_ldc2 (v := 9) hx hb hown (hts _ q1596) dX3_child_3 ?_
  refine gw_callSi (As := [.long a1.toInt64, .long 1, .long 9]) (rest := []) F hS (tM_in l g hO σ a1.toInt64 1 9 _ h) (va_cwS 3 hts (lw_S q1593 q1594 q90 q1595) rfl rfl rfl (by decide +kernel) ⟨Nat.le_of_ble_eq_true rfl, Nat.le_of_ble_eq_true rfl⟩) rfl hl.1 rfl (Nat.le_of_ble_eq_true rfl) dX3_child_6 ⟨Nat.le_refl 0, Nat.le_refl 0⟩ (fun r2 s1 H locs h hS => ?_)
  obtain ⟨zr2, h⟩ := h
  refine lv_if_eq (tgt := 29) hx hb dX3_child_9 (by decide) (fun c3 => ?_) (fun c3 => ?_)
  · have h := h.1 c3
    refine lv_iconst (v := (-1)) hx hb dX3_child_29 (by decide) ?_
    exact gw_iret F hS h dX3_child_30
  · have h := h.2 c3
    refine lv_aload_n hx hb dX3_child_12 rfl (lv_at hl 0 rfl) ?_
    refine lv_iload_n hx hb dX3_child_13 rfl (lv_at hl 2 rfl) ?_
    refine gw_callVi (As := [.int a2]) (rest := []) F hS (tM_isPerson l g hO s1 a2 _ h) (cwV 1 hts (lw_V q1713 q1715 qs52 q90 q1716) rfl rfl rfl (by decide +kernel) ⟨Nat.le_of_ble_eq_true rfl, Nat.le_of_ble_eq_true rfl⟩) (m_rec F hO hS) rfl hl.1 rfl (Nat.le_of_ble_eq_true rfl) dX3_child_14 ⟨Nat.le_refl 0, Nat.le_refl 0⟩ (fun r5 s4 H locs h hS => ?_)
    obtain ⟨zr5, h⟩ := h
    refine lv_if_eq (tgt := 29) hx hb dX3_child_17 (by decide) (fun c6 => ?_) (fun c6 => ?_)
    · have h := h.1 c6
      refine lv_iconst (v := (-1)) hx hb dX3_child_29 (by decide) ?_
      exact gw_iret F hS h dX3_child_30
    · have h := h.2 c6
      refine lv_aload_n hx hb dX3_child_20 rfl (lv_at hl 0 rfl) ?_
      refine m_geta F hO hS 20 (by decide) rfl q1417 dX3_child_21 ?_
      refine lv_iload_n hx hb dX3_child_24 rfl (lv_at hl 2 rfl) ?_
      obtain ⟨b7, h⟩ := h
      refine m_iald F hS 20 16 rfl rfl b7 dX3_child_25 ?_
      refine lv_if_lt (tgt := 31) hx hb dX3_child_26 (by decide) (fun c8 => ?_) (fun c8 => ?_)
      · have h := h.1 c8
        refine lv_aload_n hx hb dX3_child_31 rfl (lv_at hl 0 rfl) ?_
        refine lv_iload_n hx hb dX3_child_32 rfl (lv_at hl 2 rfl) ?_
        refine gw_callVi (As := [.int a2]) (rest := []) F hS (tM_isAt l g hO s4 a2 _ h) (cwV 1 hts (lw_V q1717 q1719 qs53 q90 q1720) rfl rfl rfl (by decide +kernel) ⟨Nat.le_of_ble_eq_true rfl, Nat.le_of_ble_eq_true rfl⟩) (m_rec F hO hS) rfl hl.1 rfl (Nat.le_of_ble_eq_true rfl) dX3_child_33 ⟨Nat.le_refl 0, Nat.le_refl 0⟩ (fun r10 s9 H locs h hS => ?_)
        obtain ⟨zr10, h⟩ := h
        refine lv_if_eq (tgt := 53) hx hb dX3_child_36 (by decide) (fun c11 => ?_) (fun c11 => ?_)
        · have h := h.1 c11
          refine lv_bipush (v := (-2)) hx hb dX3_child_53 (by decide) ?_
          exact gw_iret F hS h dX3_child_55
        · have h := h.2 c11
          refine lv_aload_n hx hb dX3_child_39 rfl (lv_at hl 0 rfl) ?_
          refine lv_aload_n hx hb dX3_child_40 rfl (lv_at hl 0 rfl) ?_
          refine m_geta F hO hS 21 (by decide) rfl q1418 dX3_child_41 ?_
          refine lv_iload_n hx hb dX3_child_44 rfl (lv_at hl 2 rfl) ?_
          obtain ⟨b12, h⟩ := h
          refine m_iald F hS 21 17 rfl rfl b12 dX3_child_45 ?_
          refine lv_iconst (v := 1) hx hb dX3_child_46 (by decide) ?_
          refine gw_callVi (As := [.int (s9 21 a2.toNatClampNeg), .int 1]) (rest := []) F hS (tM_hasBeds l g hO s9 (s9 21 a2.toNatClampNeg) 1 _ h) (cwV 2 hts (lw_V q1701 q1703 qs50 q90 q1704) rfl rfl rfl (by decide +kernel) ⟨Nat.le_of_ble_eq_true rfl, Nat.le_of_ble_eq_true rfl⟩) (m_rec F hO hS) rfl hl.1 rfl (Nat.le_of_ble_eq_true rfl) dX3_child_47 ⟨Nat.le_refl 0, Nat.le_refl 0⟩ (fun r14 s13 H locs h hS => ?_)
          obtain ⟨zr14, h⟩ := h
          refine lv_if_ne (tgt := 56) hx hb dX3_child_50 (by decide) (fun c15 => ?_) (fun c15 => ?_)
          · have h := h.1 c15
            refine lv_aload_n hx hb dX3_child_56 rfl (lv_at hl 0 rfl) ?_
            refine m_geti F hO hS 18 (by decide) rfl q1415 dX3_child_57 ?_
            refine lv_bipush (v := 16) hx hb dX3_child_60 (by decide) ?_
            refine lv_icmp_ne (tgt := 70) hx hb dX3_child_62 (by decide) (fun c16 => ?_) (fun c16 => ?_)
            · have h := h.1 c16
              refine lv_aload_n hx hb dX3_child_70 rfl (lv_at hl 0 rfl) ?_
              refine lv_iload_n hx hb dX3_child_71 rfl (lv_at hl 1 rfl) ?_
              refine lv_aload_n hx hb dX3_child_72 rfl (lv_at hl 0 rfl) ?_
              refine m_geta F hO hS 21 (by decide) rfl q1418 dX3_child_73 ?_
              refine lv_iload_n hx hb dX3_child_76 rfl (lv_at hl 2 rfl) ?_
              obtain ⟨b17, h⟩ := h
              refine m_iald F hS 21 17 rfl rfl b17 dX3_child_77 ?_
              refine lv_iload_n hx hb dX3_child_78 rfl (lv_at hl 2 rfl) ?_
              refine gw_callVi (As := [.int a1, .int (s13 21 a2.toNatClampNeg), .int a2]) (rest := []) F hS (tM_comes l g hO s13 a1 (s13 21 a2.toNatClampNeg) a2 _ h) (cwV 3 hts (lw_V q1705 q1707 qs51 q90 q1708) rfl rfl rfl (by decide +kernel) ⟨Nat.le_of_ble_eq_true rfl, Nat.le_of_ble_eq_true rfl⟩) (m_rec F hO hS) rfl hl.1 rfl (Nat.le_of_ble_eq_true rfl) dX3_child_79 ⟨Nat.le_refl 0, Nat.le_refl 0⟩ (fun r19 s18 H locs h hS => ?_)
              exact gw_iret F hS h dX3_child_82
            · have h := h.2 c16
              refine lv_bipush (v := (-3)) hx hb dX3_child_65 (by decide) ?_
              refine lv_goto (tgt := 82) hx hb dX3_child_67 (by decide) ?_
              exact gw_iret F hS h dX3_child_82
          · have h := h.2 c15
            refine lv_bipush (v := (-2)) hx hb dX3_child_53 (by decide) ?_
            exact gw_iret F hS h dX3_child_55
      · have h := h.2 c8
        refine lv_iconst (v := (-1)) hx hb dX3_child_29 (by decide) ?_
        exact gw_iret F hS h dX3_child_30
set_option maxHeartbeats 4000000 in
set_option maxRecDepth 100000 in
theorem tM_child (l : Launch) (g : MG) (hO : MOK g) (σ : MS) (a1 : Int32) (a2 : Int32) (post : Int32 → MS → Prop) (h : wM_child post σ a1 a2) : Met l yX3_child (ws_ yX3_child cX3_child 3 (some .int)) rM_child (va_Pc [.ref (mad g 62), .int a1, .int a2] (gPre (MWd g) (mD g) (mcl g) (mty g) σ)) (va_Qi post (gB (MWd g)) (MA g)) 0 0 (MA g) := by
  refine Met.ofW (cc := cX3_child) (maxL := 3) (ret := (some .int)) (by decide) rfl ?_
  intro p e s m args below meth c s₁ B hml hv
  obtain ⟨rfl, hW, hK⟩ := hv
  have hts := atoms_spec (ws := (ws_ yX3_child cX3_child 3 (some .int))) B.pre
  have hts : ∀ w ∈ lw_all, w.before _ s = true := fun w h => hts w (List.mem_cons_of_mem _ h)
  have hl := lv_entry ([.ref (mad g 62), .int a1, .int a2]) (n := 3) (Nat.le_of_ble_eq_true rfl)
  rw [lg_entry_eq]
  generalize (lg_sl ([.ref (mad g 62), .int a1, .int a2]) ++ List.replicate (3 - (lg_sl ([.ref (mad g 62), .int a1, .int a2])).length) Slot.unset).toArray = ls at hl ⊢
  exact kM_child ⟨⟨B.exec, B.bytes, hml, findClass_of_methodNamed B.named, hts⟩, hK, B.returns, B.notSynchronized⟩ hO σ a1 a2 s.heap [] ls ⟨hW, va_S.rf⟩ hl h
def wM_where (post : Int32 → MS → Prop) (σ : MS) (a1 : Int32) : Prop := wM_isPerson (fun r2 s1 => (((¬ (r2 = 0) → vp_in a1 16)) ∧ ∀ v4 : Int32, v4 = (if r2 = 0 then (-1) else s1 21 a1.toNatClampNeg) → post v4 s1)) σ a1
abbrev rM_where : Room := { frames := 2, cells := 0, slots := 0, locals := 46 }
set_option maxHeartbeats 4000000 in
set_option maxRecDepth 100000 in
theorem kM_where {p : Program} {l : Launch} {e : Env} {s : State} {m : MethodId} {args : Array Value} {below : List Frame} {meth : Method} {c : Code} {g : MG} {post : Int32 → MS → Prop} (F : gFx p s m c meth args cX3_where 2 RX3 (some .int) (mD g) (mcl g) (mty g)) (hO : MOK g) (σ : MS) (a1 : Int32) (H : Heap) (locs : List Loc) (ls : Array Slot) (hS : gSt (MWd g) (MA g) s σ H locs) (hl : lv_has ls 2 [(0, .ref (mad g 62)), (1, .int a1)]) (h : wM_where post σ a1) : W p l e rM_where s m args below meth c H locs 0 0 (MQ below (va_Qi post (gB (MWd g)) (MA g)) args s 0 0 (MA g)) (F0 m 0 ls []) := by
  have hx := F.hx
  have hb := F.hb
  have hts := F.1.2.2.2.2
  have hown := F.1.2.2.2.1
  rw [wM_where] at h
  refine lv_aload_n hx hb dX3_where_0 rfl (lv_at hl 0 rfl) ?_
  refine lv_iload_n hx hb dX3_where_1 rfl (lv_at hl 1 rfl) ?_
  refine gw_callVi (As := [.int a1]) (rest := []) F hS (tM_isPerson l g hO σ a1 _ h) (cwV 1 hts (lw_V q1713 q1715 qs52 q90 q1716) rfl rfl rfl (by decide +kernel) ⟨Nat.le_of_ble_eq_true rfl, Nat.le_of_ble_eq_true rfl⟩) (m_rec F hO hS) rfl hl.1 rfl (Nat.le_of_ble_eq_true rfl) dX3_where_2 ⟨Nat.le_refl 0, Nat.le_refl 0⟩ (fun r2 s1 H locs h hS => ?_)
  obtain ⟨zr2, h⟩ := h
  obtain ⟨b5, h⟩ := h
  refine gcut (P := ∀ (v4 : Int32) (H : Heap) (locs : List Loc) (ls : Array Slot), v4 = (if r2 = 0 then (-1) else s1 21 a1.toNatClampNeg) → gSt (MWd g) (MA g) s s1 H locs → lv_has ls 2 [] → W p l e rM_where s m args below meth c H locs 0 0 (MQ below (va_Qi post (gB (MWd g)) (MA g)) args s 0 0 (MA g)) (F0 m 18 ls [.int v4])) (fun v4 H locs ls ev4 hS hl => ?_) (fun J6 => ?_)
  · have h := h v4 ev4
    exact gw_iret F hS h dX3_where_18
  · refine lv_if_eq (tgt := 17) hx hb dX3_where_5 (by decide) (fun c3 => ?_) (fun c3 => ?_)
    · refine lv_iconst (v := (-1)) hx hb dX3_where_17 (by decide) ?_
      exact J6 _ H locs ls (by first | with_reducible rfl | ((try rw [if_pos c3]); done)) hS (lv_sub hl [] rfl)
    · refine lv_aload_n hx hb dX3_where_8 rfl (lv_at hl 0 rfl) ?_
      refine m_geta F hO hS 21 (by decide) rfl q1418 dX3_where_9 ?_
      refine lv_iload_n hx hb dX3_where_12 rfl (lv_at hl 1 rfl) ?_
      refine m_iald F hS 21 17 rfl rfl ((b5 c3)) dX3_where_13 ?_
      refine lv_goto (tgt := 18) hx hb dX3_where_14 (by decide) ?_
      exact J6 _ H locs ls (by first | with_reducible rfl | ((try rw [if_neg c3]); done)) hS (lv_sub hl [] rfl)
set_option maxHeartbeats 4000000 in
set_option maxRecDepth 100000 in
theorem tM_where (l : Launch) (g : MG) (hO : MOK g) (σ : MS) (a1 : Int32) (post : Int32 → MS → Prop) (h : wM_where post σ a1) : Met l yX3_where (ws_ yX3_where cX3_where 2 (some .int)) rM_where (va_Pc [.ref (mad g 62), .int a1] (gPre (MWd g) (mD g) (mcl g) (mty g) σ)) (va_Qi post (gB (MWd g)) (MA g)) 0 0 (MA g) := by
  refine Met.ofW (cc := cX3_where) (maxL := 2) (ret := (some .int)) (by decide) rfl ?_
  intro p e s m args below meth c s₁ B hml hv
  obtain ⟨rfl, hW, hK⟩ := hv
  have hts := atoms_spec (ws := (ws_ yX3_where cX3_where 2 (some .int))) B.pre
  have hts : ∀ w ∈ lw_all, w.before _ s = true := fun w h => hts w (List.mem_cons_of_mem _ h)
  have hl := lv_entry ([.ref (mad g 62), .int a1]) (n := 2) (Nat.le_of_ble_eq_true rfl)
  rw [lg_entry_eq]
  generalize (lg_sl ([.ref (mad g 62), .int a1]) ++ List.replicate (2 - (lg_sl ([.ref (mad g 62), .int a1])).length) Slot.unset).toArray = ls at hl ⊢
  exact kM_where ⟨⟨B.exec, B.bytes, hml, findClass_of_methodNamed B.named, hts⟩, hK, B.returns, B.notSynchronized⟩ hO σ a1 s.heap [] ls ⟨hW, va_S.rf⟩ hl h
