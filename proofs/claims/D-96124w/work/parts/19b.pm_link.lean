/-! ===== links: a method found above, through an interface, super ===== -/
set_option maxRecDepth 100000
section PLK
variable {μ : pm_Mt} {G : pm_M → Prop} {d : Nat} {S0 : pm_M} {Q : Outcome → pm_M → Prop} {pc : Nat} {c : pm_K}
theorem pm_nD {w : pm_W} {U : State} (hw : pm_WOK w) (hK : pm_KX w U) {x : MethodName} (hx : Cond.declares x ∈ lw_tbl) : va_Nw (Cond.declares x) U := va_Nw.warmD hK.1 (va_Nw.of rfl (hw.1 _ hx))
/-- the owner's own declaration, abstract or not -/
def pm_Dcl (x : MethodName) : Prop := Cond.declares x ∈ lw_tbl ∨ (Cond.instanceMethod x ∈ lw_all ∧ ∃ b m r, Cond.code x b m r ∈ lw_all)
theorem pm_Dcl.at {w : pm_W} {U : State} (hw : pm_WOK w) (hK : pm_KX w U) {x : MethodName} (h : pm_Dcl x) : va_Decl U x := by
  rcases h with h | ⟨h1, b, m, r, h2⟩
  · exact va_Decl.abs (pm_nD hw hK h)
  · exact va_Decl.of (pm_word hw hK h1 #[]) (pm_word hw hK h2 #[])
theorem pm_lkU {C owner : String} {idx ci n : Nat} {x : MethodName} {μ' : pm_Mt} {r : vw_C} (hd : decode μ.2.1 pc = .ok (.invokevirtual idx, 3)) (hci : ci < 50) (hr : pm_cl[ci]? = some r) (hC : r.1 = C)
    (hl : Cond.methodLink μ.1.cls idx x ∈ lw_all) (hsm : Cond.sameMethod x.cls owner x.name x.desc ∈ lw_all) (hdc : pm_Dcl ⟨owner, x.name, x.desc⟩) (ho : owner ≠ "java/lang/invoke/MethodHandle" ∧ owner ≠ "java/lang/invoke/VarHandle")
    (hs : Cond.selects C x μ'.1 ∈ lw_all) (hi : Cond.instanceMethod μ'.1 ∈ lw_all) (hnp : pm_np x n) : pm_Lk μ G pc 3 μ' (n + 1) (pm_rcv (pm_is ci)) := by
  intro w S0 S p l e R s m args below meth c T locs cells slots g av rest X XX hH hG hgm hgp hsz hst hlen hchk
  refine ⟨⟨_, hd⟩, ?_⟩
  unfold pm_rcv at hchk
  split at hchk
  · rename_i b as
    obtain ⟨cellB, hcell, hobj, hcls⟩ := pm_recv X.1 X.2.1 hH (show (pm_hd S b).1 = ci from hchk) hci hr
    rw [hC] at hcls
    obtain ⟨r0, rm, hn, hrm, hstR, hsigR⟩ := hdc.at X.1 X.2.1
    obtain ⟨cn, ck, r1, hcn, hck, hni, hf, hn1⟩ := Cond.sameMethod_found (pm_word X.1 X.2.1 hsm args)
    cases hn.symm.trans hn1
    obtain ⟨mk, methM, hnamed, hmethM, -, habM⟩ := Cond.instanceMethod_spec (pm_word X.1 X.2.1 hi args)
    obtain ⟨c2, r2, m2, q1, q2, q3, q4, kP, hkP, hkPi⟩ := Cond.selects_spec (pm_word X.1 X.2.1 hs args)
    cases hcls.symm.trans q1
    cases hf.symm.trans q2
    cases hnamed.symm.trans q3
    have hselP : selectMethod e.platform s.vm cellB.cls r0 = .method mk := by rw [Launch.admits_selectMethod XX.admits]; exact q4
    obtain ⟨vm₁, X₁, hstep₁⟩ := XX.invokevirtualUp X.2.2.2.1 X.2.2.2.2.2.2.2.1 (pm_word X.1 X.2.1 hl args) (pm_word X.1 X.2.1 hsm args) ho hn hrm hstR (a := pm_f w b) (cell := cellB) hcell
      (fun z h => by rw [h] at hobj; cases hobj) hselP hmethM habM hkP hkPi (g := g) hgm (argsL := as.map (pm_v w)) (rest := rest) (hnp.eq (by simp at hlen ⊢; exact hlen) _ hsigR) (by rw [hst]; simp [pm_v]) (by rw [X.2.2.2.2.1, hgp]; exact hd)
    exact ⟨vm₁, mk, X₁, X₁.named hnamed, hstep₁⟩
  · exact hchk.elim
/-- super.m(..) where the superclass declares it -/
theorem pm_lkSU {idx ci n : Nat} {μ' : pm_Mt} {r : vw_C} (hd : decode μ.2.1 pc = .ok (.invokespecial idx, 3)) (hci : ci < 50) (hr : pm_cl[ci]? = some r) (hl : Cond.methodLink μ.1.cls idx μ'.1 ∈ lw_all) (hsm : Cond.sameMethod μ'.1.cls μ'.1.cls μ'.1.name μ'.1.desc ∈ lw_all) (hsp : Cond.superclass μ.1.cls μ'.1.cls ∈ lw_all)
    (hi : Cond.instanceMethod μ'.1 ∈ lw_all) (hcd : Cond.code μ'.1 μ'.2.1 μ'.2.2.1 μ'.2.2.2.1 ∈ lw_all) (hno : μ'.1.name ≠ "<init>") (hnp : pm_np μ'.1 n) : pm_Lk μ G pc 3 μ' (n + 1) (pm_rcv (pm_is ci)) := by
  intro w S0 S p l e R s m args below meth c T locs cells slots g av rest X XX hH hG hgm hgp hsz hst hlen hchk
  refine ⟨⟨_, hd⟩, ?_⟩
  unfold pm_rcv at hchk
  split at hchk
  · rename_i b as
    obtain ⟨cellB, hcell, hobj, hcls⟩ := pm_recv X.1 X.2.1 hH (show (pm_hd S b).1 = ci from hchk) hci hr
    obtain ⟨kB, hkB, -⟩ := Vm.findClass_spec hcls
    obtain ⟨mk, methM, hnamed, hmethM, hstM, habM⟩ := Cond.instanceMethod_spec (pm_word X.1 X.2.1 hi args)
    obtain ⟨methM', cM, hmethM', -, -, -, -, -, -, hsigM⟩ := Cond.code_spec hnamed (pm_word X.1 X.2.1 hcd args)
    cases hmethM.symm.trans hmethM'
    obtain ⟨ps, dk, kp, hps, hdk, hkp, hsuper, -, -, hnid⟩ := Cond.superclass_spec X.2.2.2.2.2.2.2.1 (pm_word X.1 X.2.1 hsp args)
    have hn : s.methodNamed? ⟨μ'.1.cls, μ'.1.name, μ'.1.desc⟩ = some mk := hnamed
    have hpm : ps = mk.cls := Option.some.inj (hps.symm.trans (findClass_of_methodNamed hnamed))
    have hsub : s.vm.isSubclass ps mk.cls = true := by rw [hpm]; simp [Vm.isSubclass, Vm.isSubclassAux]
    obtain ⟨vm₁, X₁, hstep₁⟩ := XX.invokespecialUp X.2.2.2.1 X.2.2.2.2.2.2.2.1 (pm_word X.1 X.2.1 hl args) (pm_word X.1 X.2.1 hsm args) hn hmethM hstM habM hno hdk hnid hps hsuper hsub (a := pm_f w b) (cell := cellB) hcell
      (fun z h => by rw [h] at hobj; cases hobj) hkB (g := g) hgm (argsL := as.map (pm_v w)) (rest := rest) (hnp.eq (by simp at hlen ⊢; exact hlen) _ hsigM) (by rw [hst]; simp [pm_v]) (by rw [X.2.2.2.2.1, hgp]; exact hd)
    exact ⟨vm₁, mk, X₁, X₁.named hnamed, fun target h => hstep₁ _ (h [])⟩
  · exact hchk.elim
theorem pm_nW {w : pm_W} {U : State} (hw : pm_WOK w) (hK : pm_KX w U) {C : String} {x y : MethodName} (hx : pm_nMH x) (h1 : Cond.declares x ∈ lw_tbl) (h2 : Cond.interfaceMethod x.cls x.cls x.name x.desc ∈ lw_tbl) (h3 : Cond.publicMethod y ∈ lw_tbl) (h4 : Cond.unhidden C x.name x.desc ∈ lw_tbl) (h5 : Cond.castable C x.cls ∈ lw_tbl) : va_Fw C x y U :=
  va_Fw.moved hx hK.1.alike (va_Fw.of (hw.1 _ h1) (hw.1 _ h2) (hw.1 _ h3) (hw.1 _ h4) (hw.1 _ h5))
theorem pm_lkF {C : String} {idx cnt ci n : Nat} {x : MethodName} {μ' : pm_Mt} {r : vw_C} (hd : decode μ.2.1 pc = .ok (.invokeinterface idx cnt, 5)) (hci : ci < 50) (hr : pm_cl[ci]? = some r) (hC : r.1 = C)
    (hl : Cond.methodLink μ.1.cls idx x ∈ lw_all) (h1 : Cond.declares x ∈ lw_tbl) (h2 : Cond.interfaceMethod x.cls x.cls x.name x.desc ∈ lw_tbl) (h3 : Cond.publicMethod μ'.1 ∈ lw_tbl) (h4 : Cond.unhidden C x.name x.desc ∈ lw_tbl) (h5 : Cond.castable C x.cls ∈ lw_tbl)
    (hs : Cond.selects C x μ'.1 ∈ lw_all) (hi : Cond.instanceMethod μ'.1 ∈ lw_all) (hx : pm_nMH x) (hnp : pm_np x n) : pm_Lk μ G pc 5 μ' (n + 1) (pm_rcv (pm_is ci)) := by
  intro w S0 S p l e R s m args below meth c T locs cells slots g av rest X XX hH hG hgm hgp hsz hst hlen hchk
  refine ⟨⟨_, hd⟩, ?_⟩
  unfold pm_rcv at hchk
  split at hchk
  · rename_i b as
    obtain ⟨cellB, hcell, hobj, hcls⟩ := pm_recv X.1 X.2.1 hH (show (pm_hd S b).1 = ci from hchk) hci hr
    rw [hC] at hcls
    obtain ⟨kB, hkB, -⟩ := Vm.findClass_spec hcls
    obtain ⟨w1, w2, w3, w4, w5⟩ := pm_nW X.1 X.2.1 hx h1 h2 h3 h4 h5
    obtain ⟨r0, rm, hn, hrm, hstR, hsigR⟩ := Cond.declares_spec w1
    obtain ⟨cL, kL, r1, hcL, hkL, hiL, hfoundL, hn1⟩ := Cond.interfaceMethod_spec w2
    cases hn.symm.trans hn1
    have hr0cls : r0.cls = cL := Option.some.inj ((findClass_of_methodNamed hn).symm.trans hcL)
    obtain ⟨hnameR, hdescR⟩ := name_of_methodNamed hn hrm
    obtain ⟨mk, methM, hnamed, hmethM, -, habM⟩ := Cond.instanceMethod_spec (pm_word X.1 X.2.1 hi args)
    obtain ⟨c2, r2, m2, q1, q2, q3, q4, -⟩ := Cond.selects_spec (pm_word X.1 X.2.1 hs args)
    cases hcls.symm.trans q1
    cases hfoundL.symm.trans q2
    cases hnamed.symm.trans q3
    have hselP : selectMethod e.platform s.vm cellB.cls r0 = .method mk := by rw [Launch.admits_selectMethod XX.admits]; exact q4
    have hpubM : hasFlag methM.accessFlags Acc.public_ = true := Cond.publicMethod_spec hnamed hmethM w3
    have hway : ((cellB.cls :: s.vm.superclasses cellB.cls).any fun k => (declaredIn s.vm rm.name rm.desc k).any fun (_, z) => z.isPrivate || z.isStatic) = false := by
      rw [hnameR, hdescR]; exact Cond.unhidden_spec hcls w4
    obtain ⟨c3, t3, u1, u2, u3⟩ := Cond.castable_spec w5
    cases hcls.symm.trans u1
    cases hcL.symm.trans u2
    obtain ⟨vm₁, X₁, hstep₁⟩ := XX.invokeinterface X.2.2.2.1 X.2.2.2.2.2.2.2.1 (pm_word X.1 X.2.1 hl args) hn hrm hstR (by rw [hr0cls]; exact hkL) hiL hx (a := pm_f w b) (cell := cellB) (kcell := kB) hcell
      (fun z h => by rw [h] at hobj; cases hobj) hkB (by rw [hr0cls]; exact u3) hselP hmethM hway hpubM habM (g := g) hgm (argsL := as.map (pm_v w)) (rest := rest) (hnp.eq (by simp at hlen ⊢; exact hlen) _ hsigR) (by rw [hst]; simp [pm_v]) (by rw [X.2.2.2.2.1, hgp]; exact hd)
    exact ⟨vm₁, mk, X₁, X₁.named hnamed, hstep₁⟩
  · exact hchk.elim
/-- a call whose callee is chosen by the receiver's class -/
def pi_callID (G : pm_M → Prop) (d : Nat) (ks : List Nat) (sel : Nat → pm_Mt) (n : Nat) (c : pm_K) : pm_K := fun ls st S => match pm_pop n [] st with
  | some (.ref b :: as, r) => (pm_hd S b).1 ∈ ks ∧ (r.map fun v => v.category).sum ≤ 24 ∧ ∃ d' R, d' < d ∧ pm_CI G d' (sel (pm_hd S b).1) (.ref b :: as) S R ∧ ∀ v S', R v S' → c ls (.int v :: r) S'
  | _ => False
def pi_callVD (G : pm_M → Prop) (d : Nat) (ks : List Nat) (sel : Nat → pm_Mt) (n : Nat) (c : pm_K) : pm_K := fun ls st S => match pm_pop n [] st with
  | some (.ref b :: as, r) => (pm_hd S b).1 ∈ ks ∧ (r.map fun v => v.category).sum ≤ 24 ∧ ∃ d' R, d' < d ∧ pm_CV G d' (sel (pm_hd S b).1) (.ref b :: as) S R ∧ ∀ S', R S' → c ls r S'
  | _ => False
def pm_DL (μ : pm_Mt) (G : pm_M → Prop) (pc len : Nat) (sel : Nat → pm_Mt) (n k : Nat) : Prop := pm_Lk μ G pc len (sel k) n (pm_rcv (pm_is k)) ∧ pm_MOK (sel k) ∧ (sel k).2.2.1 ≤ 29
theorem ps_callID {len n : Nat} {ks : List Nat} {sel : Nat → pm_Mt} (h : ∀ k ∈ ks, pm_DL μ G pc len sel n k) (hc : pm_S μ G d S0 Q (pc + len) c) : pm_S μ G d S0 Q pc (pi_callID G d ks sel n c) := by
  intro ls st S hh
  unfold pi_callID at hh
  split at hh
  · rename_i b as r hpop
    obtain ⟨h1, h2, d', R, h3, h4, h5⟩ := hh
    obtain ⟨k1, k2, k3⟩ := h _ h1
    refine ps_callI k1 k2 k3 hc ls st S ?_
    unfold pi_callI
    rw [hpop]
    exact ⟨rfl, h2, d', R, h3, h4, h5⟩
  · exact hh.elim
theorem ps_callVD {len n : Nat} {ks : List Nat} {sel : Nat → pm_Mt} (h : ∀ k ∈ ks, pm_DL μ G pc len sel n k) (hc : pm_S μ G d S0 Q (pc + len) c) : pm_S μ G d S0 Q pc (pi_callVD G d ks sel n c) := by
  intro ls st S hh
  unfold pi_callVD at hh
  split at hh
  · rename_i b as r hpop
    obtain ⟨h1, h2, d', R, h3, h4, h5⟩ := hh
    obtain ⟨k1, k2, k3⟩ := h _ h1
    refine ps_callV k1 k2 k3 hc ls st S ?_
    unfold pi_callV
    rw [hpop]
    exact ⟨rfl, h2, d', R, h3, h4, h5⟩
  · exact hh.elim
end PLK
