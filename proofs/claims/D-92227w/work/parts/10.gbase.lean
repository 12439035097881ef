/-! generic rows: a world Wd of a state S in the heap, a fixed set A of cells that the system owns -/
def bz (v : Int32) : Prop := v = 0 ∨ v = 1
theorem bz0 : bz 0 := Or.inl rfl
theorem bz1 : bz 1 := Or.inr rfl
theorem bz_ite {c : Prop} [Decidable c] {a b : Int32} (h1 : bz a) (h2 : bz b) : bz (if c then a else b) := by
  by_cases h : c
  · rw [if_pos h]; exact h1
  · rw [if_neg h]; exact h2
theorem bz_nar {v : Int32} (h : bz v) : narrow .boolean (.int v) = .int v := by
  rcases h with h | h <;> subst h <;> rfl
theorem bz_fit {v : Int32} (h : bz v) : fits .boolean (.int v) = true := by
  rcases h with h | h <;> subst h <;> rfl
theorem bz_vp {v : Int32} (h : bz v) : vp_nar .boolean v = v := by
  unfold vp_nar
  rw [bz_nar h]
theorem gcut {P G : Prop} (h : P) (k : P → G) : G := k h
/-- what is fixed inside a method -/
def gFx (p : Program) (s : State) (m : MethodId) (c : Code) (meth : Method) (args : Array Value) (cc : ByteArray) (nL : Nat) (own : String) (ret : Option FieldType) (D : va_G) (cl : List vw_C) (tys : List (ClassId × FieldType)) : Prop :=
  CallFix p m c cc nL s args lw_all own ∧ va_K D cl tys s ∧ meth.sig.returnType = ret ∧ meth.locks = false
def gSt {S : Type} (Wd : S → Heap → Prop) (A : Nat → Prop) (s : State) (σ : S) (H : Heap) (locs : List Loc) : Prop := Wd σ H ∧ va_S A s.heap H locs
def gPre {S : Type} (Wd : S → Heap → Prop) (D : va_G) (cl : List vw_C) (tys : List (ClassId × FieldType)) (σ : S) (U : State) : Prop := Wd σ U.heap ∧ va_K D cl tys U
def gB {S : Type} (Wd : S → Heap → Prop) (σ : S) (t : State) : Prop := Wd σ t.heap
def zpost {S : Type} (post : Int32 → S → Prop) : Int32 → S → Prop := fun r σ => bz r ∧ post r σ
section GW
variable {p : Program} {l : Launch} {e : Env} {R : Room} {s : State} {m : MethodId} {args : Array Value} {below : List Frame} {meth : Method} {c : Code} {H : Heap} {locs : List Loc} {cells slots : Nat} {Q : State → Prop} {cc : ByteArray} {nL : Nat} {own : String} {ret : Option FieldType}
variable {D : va_G} {cl : List vw_C} {tys : List (ClassId × FieldType)} {A : Nat → Prop} {S : Type} {Wd : S → Heap → Prop} {σ : S} {pc : Nat} {ls : Array Slot} {rest st0 : List Value}
theorem gFx.hx (F : gFx p s m c meth args cc nL own ret D cl tys) : p.tables.exec = Jvm.exec := F.1.1
theorem gFx.hb (F : gFx p s m c meth args cc nL own ret D cl tys) : c.code = cc := F.1.2.1
theorem gPre.blind {av : List Value} : FrameBlind (va_Pc av (gPre Wd D cl tys σ)) := fun a U g mk q => ⟨q.1, q.2.1, va_K.moved (u := U) (U := U.calling g mk a) (Vm.Alike.refl U.vm) q.2.2⟩
theorem gw_iret {post : Int32 → S → Prop} {v : Int32} (F : gFx p s m c meth args cc nL own (some .int) D cl tys) (hS : gSt Wd A s σ H locs) (h : post v σ) (hdg : decode cc pc = .ok (.ireturn, 1)) :
    W p l e R s m args below meth c H locs cells slots (MQ below (va_Qi post (gB Wd) A) args s cells slots A) (F0 m pc ls [.int v]) :=
  W.iret F.hx F.hb F.2.2.1 (fun t ht hW => ⟨⟨v, σ, rfl, h, by show Wd σ t.heap; rw [ht]; exact hS.1⟩, hS.2.F ht⟩) hS.2.2.2 hdg F.2.2.2
theorem gw_zret {post : Int32 → S → Prop} {v : Int32} (F : gFx p s m c meth args cc nL own (some .boolean) D cl tys) (hS : gSt Wd A s σ H locs) (hz : bz v) (h : post v σ) (hdg : decode cc pc = .ok (.ireturn, 1)) :
    W p l e R s m args below meth c H locs cells slots (MQ below (va_Qi (zpost post) (gB Wd) A) args s cells slots A) (F0 m pc ls [.int v]) :=
  W.zret F.hx F.hb F.2.2.1 (bz_nar hz) (fun t ht hW => ⟨⟨v, σ, rfl, ⟨hz, h⟩, by show Wd σ t.heap; rw [ht]; exact hS.1⟩, hS.2.F ht⟩) hS.2.2.2 hdg F.2.2.2
theorem gw_vret {post : S → Prop} (F : gFx p s m c meth args cc nL own none D cl tys) (hS : gSt Wd A s σ H locs) (h : post σ) (hdg : decode cc pc = .ok (.return_, 1)) :
    W p l e R s m args below meth c H locs cells slots (MQ below (va_Qv post (gB Wd) A) args s cells slots A) (F0 m pc ls []) :=
  W.vret F.hx F.hb F.2.2.1 (fun t ht hW => ⟨⟨σ, rfl, h, by show Wd σ t.heap; rw [ht]; exact hS.1⟩, hS.2.F ht⟩) hS.2.2.2 hdg F.2.2.2
variable {y : MethodName} {bytes : ByteArray} {maxL n index mc ms : Nat} {rt : Option FieldType} {ws : List Cond} {rm : Room} {C : String} {b : Nat} {As : List Value}
theorem gw_callVi {post : Int32 → S → Prop} (F : gFx p s m c meth args cc nL own ret D cl tys) (hS : gSt Wd A s σ H locs) (hM : Met l y ws rm (va_Pc (.ref b :: As) (gPre Wd D cl tys σ)) (va_Qi post (gB Wd) A) mc ms A) (cw : CallW R s args own C index y bytes maxL rt ws rm mc ms n)
    (hrec : ∃ cellB : Cell, H[b]? = some cellB ∧ cellB.vm.isStatics = false ∧ s.vm.findClass C = some cellB.cls) (hn : As.length = n) (hsize : ls.size = nL) (hstack : st0 = As.reverse ++ .ref b :: rest) (hW : (rest.map fun v => v.category).sum ≤ 8) (hdg : decode cc pc = .ok (.invokevirtual index, 3)) (hf : cells + mc ≤ R.cells ∧ slots + ms ≤ R.slots)
    (kk : ∀ (r : Int32) (σ1 : S) (H1 : Heap) (locs1 : List Loc), post r σ1 → gSt Wd A s σ1 H1 locs1 → W p l e R s m args below meth c H1 locs1 (cells + mc) (slots + ms) Q (F0 m (pc + 3) ls (.int r :: rest))) : W p l e R s m args below meth c H locs cells slots Q (F0 m pc ls st0) :=
  va_calli (va_runV F.1 hM cw ⟨gPre.blind, hrec, fun U hU hW => ⟨rfl, by rw [hU]; exact hS.1, va_K.moved hW.alike F.2.1⟩⟩ rfl hn hsize hstack (lv_room hW) hdg hf) hS.2 (fun q _ h => h) (fun q h => h) (fun r u t H1 locs1 ht hvm hw hB hz hk hS1 => kk r u H1 locs1 hw ⟨by rw [← ht]; exact hB, hS1⟩)
theorem gw_callVv {post : S → Prop} (F : gFx p s m c meth args cc nL own ret D cl tys) (hS : gSt Wd A s σ H locs) (hM : Met l y ws rm (va_Pc (.ref b :: As) (gPre Wd D cl tys σ)) (va_Qv post (gB Wd) A) mc ms A) (cw : CallW R s args own C index y bytes maxL rt ws rm mc ms n)
    (hrec : ∃ cellB : Cell, H[b]? = some cellB ∧ cellB.vm.isStatics = false ∧ s.vm.findClass C = some cellB.cls) (hn : As.length = n) (hsize : ls.size = nL) (hstack : st0 = As.reverse ++ .ref b :: rest) (hW : (rest.map fun v => v.category).sum ≤ 8) (hdg : decode cc pc = .ok (.invokevirtual index, 3)) (hf : cells + mc ≤ R.cells ∧ slots + ms ≤ R.slots)
    (kk : ∀ (σ1 : S) (H1 : Heap) (locs1 : List Loc), post σ1 → gSt Wd A s σ1 H1 locs1 → W p l e R s m args below meth c H1 locs1 (cells + mc) (slots + ms) Q (F0 m (pc + 3) ls rest)) : W p l e R s m args below meth c H locs cells slots Q (F0 m pc ls st0) :=
  va_callv (va_runV F.1 hM cw ⟨gPre.blind, hrec, fun U hU hW => ⟨rfl, by rw [hU]; exact hS.1, va_K.moved hW.alike F.2.1⟩⟩ rfl hn hsize hstack (lv_room hW) hdg hf) hS.2 (fun q _ h => h) (fun q h => h) (fun u t H1 locs1 ht hvm hw hB hz hk hS1 => kk u H1 locs1 hw ⟨by rw [← ht]; exact hB, hS1⟩)
theorem gw_callSi {post : Int32 → S → Prop} (F : gFx p s m c meth args cc nL own ret D cl tys) (hS : gSt Wd A s σ H locs) (hM : Met l y ws rm (va_Pc As (gPre Wd D cl tys σ)) (va_Qi post (gB Wd) A) mc ms A) (cw : CallB R s args own index y bytes maxL rt ws rm mc ms n ∧ (Cond.static y).before args s = true)
    (hn : As.length = n) (hsize : ls.size = nL) (hstack : st0 = As.reverse ++ rest) (hW : (rest.map fun v => v.category).sum ≤ 8) (hdg : decode cc pc = .ok (.invokestatic index, 3)) (hf : cells + mc ≤ R.cells ∧ slots + ms ≤ R.slots)
    (kk : ∀ (r : Int32) (σ1 : S) (H1 : Heap) (locs1 : List Loc), post r σ1 → gSt Wd A s σ1 H1 locs1 → W p l e R s m args below meth c H1 locs1 (cells + mc) (slots + ms) Q (F0 m (pc + 3) ls (.int r :: rest))) : W p l e R s m args below meth c H locs cells slots Q (F0 m pc ls st0) :=
  va_calli (va_runS F.1 hM cw ⟨gPre.blind, fun U hU hW => ⟨rfl, by rw [hU]; exact hS.1, va_K.moved hW.alike F.2.1⟩⟩ rfl hn hsize hstack (lv_room hW) hdg hf) hS.2 (fun q _ h => h) (fun q h => h) (fun r u t H1 locs1 ht hvm hw hB hz hk hS1 => kk r u H1 locs1 hw ⟨by rw [← ht]; exact hB, hS1⟩)
end GW
