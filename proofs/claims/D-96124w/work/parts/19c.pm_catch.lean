/-! ===== an exception caught in the method ===== -/
set_option maxRecDepth 100000
section PCT
variable {μ : pm_Mt} {G : pm_M → Prop} {d : Nat} {S0 : pm_M} {Q : Outcome → pm_M → Prop} {pc : Nat} {c : pm_K}
theorem pm_go_cold {E : CtlPost} {e : Env} {db : Bool} {acts : List Action} {s : State} {f : JFrame} {a : Addr} {QH : Handler → Pre} {x : ExceptionTableEntry} {t : List ExceptionTableEntry} {cC : ClassId} {cell : Cell} {vm' : Vm} (hx : covers x f.pc = true) (h0 : x.catchType ≠ 0)
    (hg : (Jvm.resolveClass f.method.cls x.catchType).Gives e.toSetting s.vm (.ok cC) vm') (hsz : vm'.classes.size ≤ s.vm.classes.size) (hcell : s.heap[a]? = some cell) (hobj : ∀ k, cell.vm ≠ .statics k)
    (hk : ∃ k, vm'.classes[cell.cls]? = some k) (hc : ∃ k, vm'.classes[cC]? = some k) (hfit : vm'.assignable cell.cls cC = true) :
    wp (findHandler.go f a (x :: t)) QH E e db acts s ↔ QH (.found x.handlerPc) db acts (s.setVm vm') := by
  obtain ⟨ha, ht⟩ := hg.op (op := VmOp.resolveClass f.method.cls x.catchType) rfl
  simp only [covers] at hx
  simp [findHandler.go, hx, h0, ha, ht, hsz, hcell, hobj, hk, hc, hfit, VmOp.dirties, VmOp.acts]
theorem pm_catch_step {e : Env} {s : State} {a : Addr} {f : JFrame} {r : List Frame} {hpc : Nat} {vm' : Vm} (hfind : ∀ (QH : Handler → Pre) (E : CtlPost) (db : Bool) (acts : List Action), wp (findHandler f a) QH E e db acts s ↔ QH (.found hpc) db acts (s.setVm vm')) :
    (stepThrowing e s a (.java f :: r)).Is ((s.setVm vm').setFrames (.java { f with pc := hpc, stack := [.ref a] } :: r)) [] := by
  simp only [stepThrowing, searchFrame, vmDo]
  generalize hr : Sem.go _ e false [] s = res
  obtain ⟨as, rfl, ha⟩ := Sem.eq_ok_of hr (a := Handler.found hpc) (s' := s.setVm vm') (acts' := []) (by simp [hfind _ _ _ _])
  exact ⟨rfl, ha⟩
theorem pm_catch_steps {tb : Tables} {e : Env} {s target : State} {g : JFrame} {c : Code} {below : List Frame} {a : Addr} {vm' : Vm} (h : At s g.method c below) {hpc : Nat}
    (hfind : ∀ (QH : Handler → Pre) (E : CtlPost) (db : Bool) (acts : List Action), wp (findHandler g a) QH E e db acts ((s.setTop g).pushFrame (.throwing a)) ↔ QH (.found hpc) db acts (((s.setTop g).pushFrame (.throwing a)).setVm vm'))
    (hrest : Steps tb e below ((s.setVm vm').setTop { g with pc := hpc, stack := [.ref a] }) target) :
    Steps tb e below ((s.setTop g).pushFrame (.throwing a)) target := by
  obtain ⟨hgo, hw⟩ := h.throwing a
  refine Steps.head hgo hw ?_
  rw [stepThread_throwing (frames_entered h.top _), (pm_catch_step (s := (s.setTop g).pushFrame (.throwing a)) hfind).1]
  obtain ⟨g₀, hg⟩ := Option.isSome_iff_exists.mp h.top
  obtain ⟨r, hr⟩ := State.topJava?_eq_some.mp hg
  have hr' : (s.setVm vm').frames = .java g₀ :: r := hr
  have e1 : (((s.setTop g).pushFrame (.throwing a)).setVm vm').setFrames (.java { g with pc := hpc, stack := [.ref a] } :: s.frames.tail) = (s.setVm vm').setTop { g with pc := hpc, stack := [.ref a] } := by
    rw [State.setTop_of_frames _ hr', State.pushFrame, State.setTop_of_frames _ hr, State.setFrames_setFrames, hr]
    exact congrArg (fun z : State => z.setVm vm') (State.setFrames_setFrames s _ _)
  rw [e1]
  exact hrest
/-- the first entry of the table covers pc and names the thrown one's class -/
theorem pm_Th.cls {sp ep hpc ct ci : Nat} {hs : List (Nat × Nat × Nat × Nat)} {C : String} {r : vw_C} (hh : μ.2.2.2.2 = (sp, ep, hpc, ct) :: hs) (h1 : sp ≤ pc) (h2 : pc < ep) (h0 : ct ≠ 0) (hci : ci < 50) (hr : pm_cl[ci]? = some r) (hC : r.1 = C) (hl : Cond.classLink μ.1.cls ct C ∈ lw_all) (hcs : Cond.castable C C ∈ lw_tbl) :
    pm_Th μ G d S0 Q pc (fun ls a S => (pm_hd S a).1 = ci ∧ pm_V μ G d S0 Q hpc ls [.ref a] S) := by
  intro w p l e s m args below meth c ls a S h X T locs rls st hH hG hle hS hL XX
  have hexc := X.2.2.2.2.2.2.2.2.2.2
  rw [hh] at hexc
  obtain ⟨x, t, hsplit⟩ : ∃ x t, c.exceptionTable.toList = x :: t := by
    cases hq : c.exceptionTable.toList with
    | nil => rw [hq] at hexc; cases hexc
    | cons x t => exact ⟨x, t, rfl⟩
  rw [hsplit, List.map_cons] at hexc
  have hx := (List.cons.inj hexc).1
  simp only [Prod.mk.injEq] at hx
  obtain ⟨x1, x2, x3, x4⟩ := hx
  obtain ⟨cell, hcell, hst, hcls⟩ := pm_recv X.1 X.2.1 hH h.1 hci hr
  rw [hC] at hcls
  have hpl : e.platform.magicAccessors = ({} : Platform).magicAccessors := by rw [XX.admits.platform]
  obtain ⟨cc, hfc, hcl⟩ := Cond.classLink_spec X.2.2.2.2.2.2.2.1 (pm_word X.1 X.2.1 hl args) e.platform hpl
  cases hcls.symm.trans hfc
  obtain ⟨hg₁, hwarm₁, hready₁⟩ := State.classEntry (e := e) XX.warmed hcl
  obtain ⟨c3, t3, u1, u2, u3⟩ := Cond.castable_spec (va_Nw.use (A := args) rfl (pm_nC X.1 X.2.1 hcs))
  cases hcls.symm.trans u1
  cases hcls.symm.trans u2
  have X₁ := XX.noted hwarm₁
  obtain ⟨kc, hkc, -⟩ := Vm.findClass_spec hcls
  obtain ⟨k2, hk2, -⟩ := hwarm₁.alike.2.2 _ _ hkc
  obtain ⟨t', b1, b2⟩ := h.2 w p l e s m args below meth c X T.heap locs rls hH hG hle hS hL (T.setVm (T.vm.noted m.cls ct (.cls cell.cls))) rfl X₁
  refine ⟨t', ?_, b2⟩
  refine pm_catch_steps (vm' := T.vm.noted m.cls ct (.cls cell.cls)) (g := F0 m pc rls st) (a := pm_f w a) (hpc := hpc) XX.here (fun QH E db acts => ?_) b1
  have hm : ((T.setTop (F0 m pc rls st)).pushFrame (.throwing (pm_f w a))).vm.method? m = some meth := by
    rw [Stand.throwing_vm]
    exact XX.method'
  rw [W.findHandler_eq (f := F0 m pc rls st) hm XX.code, hsplit, ← x3]
  refine pm_go_cold (cC := cell.cls) (cell := cell) (by simp [covers, x1, x2, h1, h2]) (by rw [x4]; exact h0) ?_ ?_ ?_ ?_ ?_ ?_ ?_
  · rw [Stand.throwing_vm, x4]
    exact hg₁
  · rw [Stand.throwing_vm]
    simp
  · rw [Stand.throwing_heap]
    exact hcell
  · intro k hk
    rw [hk] at hst
    cases hst
  · exact ⟨k2, hk2⟩
  · exact ⟨k2, hk2⟩
  · rw [hwarm₁.alike.assignable]
    exact u3
def pi_thrT (th : List (Option Value) → Nat → pm_M → Prop) : pm_K := fun ls st S => match st with
  | .ref a :: _ => th ls a S
  | _ => False
theorem ps_thrT {th : List (Option Value) → Nat → pm_M → Prop} (hd : decode μ.2.1 pc = .ok (.athrow, 1)) (hth : pm_Th μ G d S0 Q pc th) : pm_S μ G d S0 Q pc (pi_thrT th) := by
  intro ls st S h
  unfold pi_thrT at h
  split at h
  · rename_i a r
    intro w p l e s m args below meth c' X H locs rls hH hG hle hS hL
    intro T hT XX
    have hH' : pm_HR w S T.heap := by rw [hT]; exact hH
    have hS' : va_S (pm_A w) s.heap T.heap locs := by rw [hT]; exact hS
    obtain ⟨t, b1, b2⟩ := hth w p l e s m args below meth c' ls a S h X T locs rls (r.map (pm_v w)) hH' hG hle hS' hL XX
    refine ⟨t, ?_, b2⟩
    have hdg : decode c'.code (F0 m pc rls (.ref (pm_f w a) :: r.map (pm_v w))).pc = .ok (.athrow, 1) := by rw [X.2.2.2.2.1]; exact hd
    show Steps p.tables e below (T.setTop (F0 m pc rls (.ref (pm_f w a) :: r.map (pm_v w)))) t
    jvm_step XX.here [X.2.2.2.1, hdg, athrow.wp_sem]
    exact b1
  · exact h.elim
end PCT
