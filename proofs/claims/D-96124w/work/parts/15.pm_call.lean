/-! ===== pi_, ps_: returns, throws, calls ===== -/
set_option maxRecDepth 100000
section PC
variable {μ : pm_Mt} {G : pm_M → Prop} {d : Nat} {S0 : pm_M} {Q : Outcome → pm_M → Prop} {pc : Nat} {c : pm_K}
def pi_iret (Q : Outcome → pm_M → Prop) : pm_K := fun _ st S => match st with
  | [.int v] => Q (.returned (some (.int v))) S
  | _ => False
def pi_zret (Q : Outcome → pm_M → Prop) : pm_K := fun _ st S => match st with
  | [.int v] => (v = 0 ∨ v = 1) ∧ Q (.returned (some (.int v))) S
  | _ => False
def pi_lret (Q : Outcome → pm_M → Prop) : pm_K := fun _ st S => match st with
  | [.long v] => Q (.returned (some (.long v))) S
  | _ => False
def pi_aret (Q : Outcome → pm_M → Prop) : pm_K := fun _ st S => match st with
  | [.ref v] => Q (.returned (some (.ref v))) S
  | [.null] => Q (.returned (some .null)) S
  | _ => False
def pi_vret (Q : Outcome → pm_M → Prop) : pm_K := fun _ st S => match st with
  | [] => Q (.returned none) S
  | _ => False

theorem ps_iret (hd : decode μ.2.1 pc = .ok (.ireturn, 1)) (hrt : μ.2.2.2.1 = some .int) : pm_S μ G d S0 Q pc (pi_iret Q) := by
  intro ls st S h
  unfold pi_iret at h
  split at h
  · rename_i v
    intro w p l e s m args below meth c' X H locs rls hH hG hle hS hL
    intro T hT XX
    have hlocks := X.2.2.2.2.2.2.2.2.1
    have hr : meth.sig.returnType = some .int := X.2.2.2.2.2.2.1.trans hrt
    obtain ⟨fs, hret, hrun, hended, hW, hframe⟩ := XX.leave (v := some (.int v)) (hlocks := hlocks) (fun h => by rw [hr] at h; cases h)
    have hmeth' : T.vm.method? m = some meth := XX.method'
    refine ⟨T.setFrames fs, ?_, .returned (some (.int v)), hrun, hended, .returned (some (.int v)), S, rfl, h, hG, by rw [show (T.setFrames fs).heap = H from hT]; exact hH, hle, hS.F (t := T.setFrames fs) hT, hW, locs, hframe, hS.2.2⟩
    jvm_step XX.here [XX.here.top, X.2.2.2.1, X.2.2.2.2.1, hd, hmeth', hr, narrow, pm_v]
    (try refine ⟨rfl, ?_⟩); (try refine ⟨rfl, ?_⟩)
    first | (intro acts; rw [hret _ acts rfl rfl rfl]) | rw [hret _ _ rfl rfl rfl]
    exact Steps.refl _
  · exact h.elim
theorem ps_zret (hd : decode μ.2.1 pc = .ok (.ireturn, 1)) (hrt : μ.2.2.2.1 = some .boolean) : pm_S μ G d S0 Q pc (pi_zret Q) := by
  intro ls st S h
  unfold pi_zret at h
  split at h
  · rename_i v
    have hn : narrow .boolean (.int v) = .int v := by rcases h.1 with q | q <;> rw [q] <;> rfl
    intro w p l e s m args below meth c' X H locs rls hH hG hle hS hL
    intro T hT XX
    have hlocks := X.2.2.2.2.2.2.2.2.1
    have hr : meth.sig.returnType = some .boolean := X.2.2.2.2.2.2.1.trans hrt
    obtain ⟨fs, hret, hrun, hended, hW, hframe⟩ := XX.leave (v := some (.int v)) (hlocks := hlocks) (fun h => by rw [hr] at h; cases h)
    have hmeth' : T.vm.method? m = some meth := XX.method'
    refine ⟨T.setFrames fs, ?_, .returned (some (.int v)), hrun, hended, .returned (some (.int v)), S, rfl, h.2, hG, by rw [show (T.setFrames fs).heap = H from hT]; exact hH, hle, hS.F (t := T.setFrames fs) hT, hW, locs, hframe, hS.2.2⟩
    jvm_step XX.here [XX.here.top, X.2.2.2.1, X.2.2.2.2.1, hd, hmeth', hr, hn, pm_v]
    (try refine ⟨rfl, ?_⟩); (try refine ⟨rfl, ?_⟩)
    first | (intro acts; rw [hret _ acts rfl rfl rfl]) | rw [hret _ _ rfl rfl rfl]
    exact Steps.refl _
  · exact h.elim
theorem ps_lret (hd : decode μ.2.1 pc = .ok (.lreturn, 1)) (hrt : μ.2.2.2.1 = some .long) : pm_S μ G d S0 Q pc (pi_lret Q) := by
  intro ls st S h
  unfold pi_lret at h
  split at h
  · rename_i v
    intro w p l e s m args below meth c' X H locs rls hH hG hle hS hL
    intro T hT XX
    have hlocks := X.2.2.2.2.2.2.2.2.1
    have hr : meth.sig.returnType = some .long := X.2.2.2.2.2.2.1.trans hrt
    obtain ⟨fs, hret, hrun, hended, hW, hframe⟩ := XX.leave (v := some (.long v)) (hlocks := hlocks) (fun h => by rw [hr] at h; cases h)
    have hmeth' : T.vm.method? m = some meth := XX.method'
    refine ⟨T.setFrames fs, ?_, .returned (some (.long v)), hrun, hended, .returned (some (.long v)), S, rfl, h, hG, by rw [show (T.setFrames fs).heap = H from hT]; exact hH, hle, hS.F (t := T.setFrames fs) hT, hW, locs, hframe, hS.2.2⟩
    jvm_step XX.here [XX.here.top, X.2.2.2.1, X.2.2.2.2.1, hd, hmeth', hr, narrow, pm_v]
    (try refine ⟨rfl, ?_⟩); (try refine ⟨rfl, ?_⟩)
    first | (intro acts; rw [hret _ acts rfl rfl rfl]) | rw [hret _ _ rfl rfl rfl]
    exact Steps.refl _
  · exact h.elim
theorem ps_aret {C : String} (hd : decode μ.2.1 pc = .ok (.areturn, 1)) (hrt : μ.2.2.2.1 = some (.object C)) : pm_S μ G d S0 Q pc (pi_aret Q) := by
  intro ls st S h
  unfold pi_aret at h
  split at h
  · rename_i v
    intro w p l e s m args below meth c' X H locs rls hH hG hle hS hL
    intro T hT XX
    have hlocks := X.2.2.2.2.2.2.2.2.1
    have hr : meth.sig.returnType = some (.object C) := X.2.2.2.2.2.2.1.trans hrt
    obtain ⟨fs, hret, hrun, hended, hW, hframe⟩ := XX.leave (v := some (.ref (pm_f w v))) (hlocks := hlocks) (fun h => by rw [hr] at h; cases h)
    have hmeth' : T.vm.method? m = some meth := XX.method'
    refine ⟨T.setFrames fs, ?_, .returned (some (.ref (pm_f w v))), hrun, hended, .returned (some (.ref v)), S, rfl, h, hG, by rw [show (T.setFrames fs).heap = H from hT]; exact hH, hle, hS.F (t := T.setFrames fs) hT, hW, locs, hframe, hS.2.2⟩
    jvm_step XX.here [XX.here.top, X.2.2.2.1, X.2.2.2.2.1, hd, hmeth', hr, pm_v]
    (try refine ⟨rfl, ?_⟩); (try refine ⟨rfl, ?_⟩)
    first | (intro acts; rw [hret _ acts rfl rfl rfl]) | rw [hret _ _ rfl rfl rfl]
    exact Steps.refl _
  · 
    intro w p l e s m args below meth c' X H locs rls hH hG hle hS hL
    intro T hT XX
    have hlocks := X.2.2.2.2.2.2.2.2.1
    have hr : meth.sig.returnType = some (.object C) := X.2.2.2.2.2.2.1.trans hrt
    obtain ⟨fs, hret, hrun, hended, hW, hframe⟩ := XX.leave (v := some .null) (hlocks := hlocks) (fun h => by rw [hr] at h; cases h)
    have hmeth' : T.vm.method? m = some meth := XX.method'
    refine ⟨T.setFrames fs, ?_, .returned (some .null), hrun, hended, .returned (some .null), S, rfl, h, hG, by rw [show (T.setFrames fs).heap = H from hT]; exact hH, hle, hS.F (t := T.setFrames fs) hT, hW, locs, hframe, hS.2.2⟩
    jvm_step XX.here [XX.here.top, X.2.2.2.1, X.2.2.2.2.1, hd, hmeth', hr, pm_v]
    (try refine ⟨rfl, ?_⟩); (try refine ⟨rfl, ?_⟩)
    first | (intro acts; rw [hret _ acts rfl rfl rfl]) | rw [hret _ _ rfl rfl rfl]
    exact Steps.refl _
  · exact h.elim
theorem ps_vret (hd : decode μ.2.1 pc = .ok (.return_, 1)) (hrt : μ.2.2.2.1 = none) : pm_S μ G d S0 Q pc (pi_vret Q) := by
  intro ls st S h
  unfold pi_vret at h
  split at h
  · 
    intro w p l e s m args below meth c' X H locs rls hH hG hle hS hL
    intro T hT XX
    have hlocks := X.2.2.2.2.2.2.2.2.1
    have hr : meth.sig.returnType = none := X.2.2.2.2.2.2.1.trans hrt
    obtain ⟨fs, hret, hrun, hended, hW, hframe⟩ := XX.leave (v := none) (hlocks := hlocks) (fun _ => rfl)
    have hmeth' : T.vm.method? m = some meth := XX.method'
    refine ⟨T.setFrames fs, ?_, .returned (none), hrun, hended, .returned (none), S, rfl, h, hG, by rw [show (T.setFrames fs).heap = H from hT]; exact hH, hle, hS.F (t := T.setFrames fs) hT, hW, locs, hframe, hS.2.2⟩
    jvm_step XX.here [XX.here.top, X.2.2.2.1, X.2.2.2.2.1, hd, hmeth', hr, pm_v]
    (try refine ⟨rfl, ?_⟩); (try refine ⟨rfl, ?_⟩)
    first | (intro acts; rw [hret _ acts rfl rfl rfl]) | rw [hret _ _ rfl rfl rfl]
    exact Steps.refl _
  · exact h.elim
/-- an exception that leaves the method -/
def pm_out (μ : pm_Mt) (pc : Nat) : Prop := ∀ h ∈ μ.2.2.2.2, ¬ (h.1 ≤ pc ∧ pc < h.2.1)
theorem pm_cov {c : Code} (he : c.exceptionTable.toList.map (fun h => (h.startPc, h.endPc, h.handlerPc, h.catchType)) = μ.2.2.2.2) (ho : pm_out μ pc) : ∀ x ∈ c.exceptionTable.toList, covers x pc = false := by
  intro x hx
  have h1 := ho (x.startPc, x.endPc, x.handlerPc, x.catchType) (by rw [← he]; exact List.mem_map.mpr ⟨x, hx, rfl⟩)
  simp only [covers, Bool.and_eq_false_iff, decide_eq_false_iff_not]
  rcases Nat.lt_or_ge pc x.startPc with q | q
  · exact Or.inl (by omega)
  · exact Or.inr fun q2 => h1 ⟨q, q2⟩
def pi_thr (Q : Outcome → pm_M → Prop) : pm_K := fun _ st S => match st with
  | .ref a :: _ => Q (.threw a) S
  | _ => False
theorem ps_thr (hd : decode μ.2.1 pc = .ok (.athrow, 1)) (ho : pm_out μ pc) : pm_S μ G d S0 Q pc (pi_thr Q) := by
  intro ls st S h
  unfold pi_thr at h
  split at h
  · rename_i a r
    intro w p l e s m args below meth c' X H locs rls hH hG hle hS hL
    intro T hT XX
    obtain ⟨h1, h2, h3, h4, h5⟩ := XX.athrowLeaves X.2.2.2.1 (g := F0 m pc rls (.ref (pm_f w a) :: r.map (pm_v w))) rfl rfl rfl (pm_cov X.2.2.2.2.2.2.2.2.2.2 ho) rfl (by rw [X.2.2.2.2.1]; exact hd) (hlocks := X.2.2.2.2.2.2.2.2.1)
    exact ⟨_, h1, .threw (pm_f w a), h2, h3, .threw a, S, rfl, h, hG, by rw [show (T.setFrames _).heap = H from hT]; exact hH, hle, hS.F (t := T.setFrames _) hT, h4, locs, h5, hS.2.2⟩
  · exact h.elim
/-- Object's own constructor -/
def pi_obj (c : pm_K) : pm_K := fun ls st S => match st with
  | .ref _ :: r => (r.map fun v => v.category).sum ≤ 8 ∧ c ls r S
  | _ => False
theorem ps_obj {idx : Nat} (hd : decode μ.2.1 pc = .ok (.invokespecial idx, 3)) (hl : Cond.methodLink μ.1.cls idx Lib.objectInit ∈ lw_all) (hi : Cond.instanceMethod Lib.objectInit ∈ lw_all) (hcd : Cond.code Lib.objectInit ⟨#[0xb1]⟩ 1 none ∈ lw_all) (hd1 : 0 < d) (hc : pm_S μ G d S0 Q (pc + 3) c) : pm_S μ G d S0 Q pc (pi_obj c) := by
  intro ls st S h
  unfold pi_obj at h
  split at h
  · rename_i a r
    intro w p l e s m args below meth c' X H locs rls hH hG hle hS hL
    refine W.objInit X.2.2.2.1 X.2.2.2.2.1 X.2.2.2.2.2.2.2.1 (pm_word X.1 X.2.1 hl _) (pm_word X.1 X.2.1 hi _) (pm_word X.1 X.2.1 hcd _) (g := F0 m pc rls (.ref (pm_f w a) :: r.map (pm_v w))) rfl (by rw [X.2.2.2.2.2.1]; exact hL.1) rfl hd (show 1 ≤ d from hd1) (show 2 * 0 + _ + 12 ≤ 64 * d by rw [pm_cats]; omega) (hc _ _ _ h.2 w p l e s m args below meth c' X H locs rls hH hG hle hS hL)
  · exact h.elim
def pm_pop : Nat → List Value → List Value → Option (List Value × List Value)
  | 0, acc, st => some (acc, st)
  | n + 1, acc, v :: st => pm_pop n (v :: acc) st
  | _ + 1, _, [] => none
theorem pm_pop_spec : ∀ (n : Nat) (acc st av r : List Value), pm_pop n acc st = some (av, r) → ∃ q, av = q ++ acc ∧ st = q.reverse ++ r ∧ q.length = n
  | 0, acc, st, av, r, h => by cases h; exact ⟨[], rfl, rfl, rfl⟩
  | n + 1, acc, v :: st, av, r, h => by
    obtain ⟨q, h1, h2, h3⟩ := pm_pop_spec n (v :: acc) st av r h
    exact ⟨q ++ [v], by simp [h1], by simp [h2], by simp [h3]⟩
  | n + 1, acc, [], av, r, h => by cases h
/-- the call at pc goes to μ' -/
def pm_Lk (μ : pm_Mt) (G : pm_M → Prop) (pc len : Nat) (μ' : pm_Mt) (n : Nat) (chk : pm_M → List Value → Prop) : Prop :=
  ∀ (w : pm_W) (S0 S : pm_M) (p : Program) (l : Launch) (e : Env) (R : Room) (s : State) (m : MethodId) (args : Array Value) (below : List Frame) (meth : Method) (c : Code) (T : State) (locs : List Loc) (cells slots : Nat) (g : JFrame) (av rest : List Value),
    pm_Cx w μ S0 p s m meth c → Stand p l e R s m args below meth c T locs cells slots → pm_HR w S T.heap → G S → g.method = m → g.pc = pc → g.locals.size = c.maxLocals → g.stack = (av.map (pm_v w)).reverse ++ rest → av.length = n → chk S av →
    (∃ ig, decode μ.2.1 pc = .ok (ig, len)) ∧ ∃ (vm₁ : Vm) (mk : MethodId), Stand p l e R s m args below meth c (T.setVm vm₁) locs cells slots ∧ (T.setVm vm₁).methodNamed? μ'.1 = some mk ∧
      ∀ target, (∀ acts, Steps p.tables e below (doInvoke e ((T.setVm vm₁).setTop { g with stack := rest }) acts mk (av.map (pm_v w)).toArray).1 target) → Steps p.tables e below (T.setTop g) target
def pm_CV (G : pm_M → Prop) (d : Nat) (μ : pm_Mt) (av : List Value) (S : pm_M) (R : pm_M → Prop) : Prop := pm_C G d μ av S (fun o S' => o = .returned none ∧ R S')
def pm_CI (G : pm_M → Prop) (d : Nat) (μ : pm_Mt) (av : List Value) (S : pm_M) (R : Int32 → pm_M → Prop) : Prop := pm_C G d μ av S (fun o S' => ∃ v, o = .returned (some (.int v)) ∧ R v S')
def pm_CL (G : pm_M → Prop) (d : Nat) (μ : pm_Mt) (av : List Value) (S : pm_M) (R : Int64 → pm_M → Prop) : Prop := pm_C G d μ av S (fun o S' => ∃ v, o = .returned (some (.long v)) ∧ R v S')
def pm_CR (G : pm_M → Prop) (d : Nat) (μ : pm_Mt) (av : List Value) (S : pm_M) (R : Nat → pm_M → Prop) : Prop := pm_C G d μ av S (fun o S' => ∃ v, o = .returned (some (.ref v)) ∧ R v S')
/-- the general call: a callee that may throw; h says what is behind a throw -/
def pi_callT (G : pm_M → Prop) (d : Nat) (μ' : pm_Mt) (n : Nat) (chk : pm_M → List Value → Prop) (th : List (Option Value) → Nat → pm_M → Prop) (c : pm_K) : pm_K := fun ls st S => match pm_pop n [] st with
  | some (av, r) => chk S av ∧ (r.map fun v => v.category).sum ≤ 24 ∧ ∃ d' R, d' < d ∧ pm_C G d' μ' av S R ∧ (∀ v S', R (.returned v) S' → c ls (v.toList ++ r) S') ∧ (∀ a S', R (.threw a) S' → th ls a S')
  | none => False
/-- what the thrown one meets at pc -/
def pm_Th (μ : pm_Mt) (G : pm_M → Prop) (d : Nat) (S0 : pm_M) (Q : Outcome → pm_M → Prop) (pc : Nat) (th : List (Option Value) → Nat → pm_M → Prop) : Prop :=
  ∀ (w : pm_W) (p : Program) (l : Launch) (e : Env) (s : State) (m : MethodId) (args : Array Value) (below : List Frame) (meth : Method) (c : Code) (ls : List (Option Value)) (a : Nat) (S : pm_M), th ls a S → pm_Cx w μ S0 p s m meth c →
    ∀ (T : State) (locs : List Loc) (rls : Array Slot) (st : List Value), pm_HR w S T.heap → G S → pm_le S0 S → va_S (pm_A w) s.heap T.heap locs → pm_LS w μ.2.2.1 ls rls → Stand p l e (pm_R d S0) s m args below meth c T locs (pm_n S - pm_n S0) (pm_sl S - pm_sl S0) →
      ∃ t, Steps p.tables e below ((T.setTop (F0 m pc rls st)).pushFrame (.throwing (pm_f w a))) t ∧ pm_Z w G S0 Q below s t
theorem pm_Th.out (ho : pm_out μ pc) : pm_Th μ G d S0 Q pc (fun _ a S => Q (.threw a) S) := by
  intro w p l e s m args below meth c ls a S h X T locs rls st hH hG hle hS hL XX
  obtain ⟨h1, h2, h3, h4, h5⟩ := XX.leaveThrown (pm_f w a) (g := F0 m pc rls st) rfl rfl rfl (pm_cov X.2.2.2.2.2.2.2.2.2.2 ho) (hlocks := X.2.2.2.2.2.2.2.2.1)
  exact ⟨_, h1, .threw (pm_f w a), h2, h3, .threw a, S, rfl, h, hG, hH, hle, hS.F (t := T.setFrames _) rfl, h4, locs, h5, hS.2.2⟩
theorem ps_callT {μ' : pm_Mt} {n len : Nat} {chk : pm_M → List Value → Prop} {th : List (Option Value) → Nat → pm_M → Prop} (hlk : pm_Lk μ G pc len μ' n chk) (hM : pm_MOK μ') (hmx : μ'.2.2.1 ≤ 29) (hth : pm_Th μ G d S0 Q pc th) (hc : pm_S μ G d S0 Q (pc + len) c) : pm_S μ G d S0 Q pc (pi_callT G d μ' n chk th c) := by
  intro ls st S h
  unfold pi_callT at h
  split at h
  · rename_i av r hpop
    obtain ⟨q, e1, e2, e3⟩ := pm_pop_spec n [] st av r hpop
    rw [List.append_nil] at e1
    subst e1
    subst e2
    intro w p l e s m args below meth c' X H locs rls hH hG hle hS hL
    obtain ⟨hchk, hcat, d', R, hd', hC, hret, hthr⟩ := h
    intro T hT XX
    have hH' : pm_HR w S T.heap := by rw [hT]; exact hH
    obtain ⟨⟨ig, hdec⟩, vm₁, mk, X₁, hn, hstep⟩ := hlk w S0 S p l e _ s m args below meth c' T locs _ _ (F0 m pc rls ((av.reverse ++ r).map (pm_v w))) av (r.map (pm_v w)) X XX hH' hG rfl rfl (by rw [X.2.2.2.2.2.1]; exact hL.1) (by simp) e3 hchk
    have hKU : pm_KX w (T.setVm vm₁) := X.2.1.at X₁.warmed hT hS
    have hle1 := hle.1
    have hle2 := hle.2
    have hn9 := hH.2.2.1.1
    have hn8 := hH.2.2.1.2
    obtain ⟨o, S', U', L, k1, k2, k3, k4, k5, k6, k7, k8, k9, k10⟩ := hC.back hM X.1 hG X₁ hKU hH' (R := pm_R d S0) (show d' + 1 ≤ d from hd') (show 24 + (μ'.2.2.1 + 11) + 64 * d' ≤ 64 * d by omega) (show _ ≤ 900000 - pm_n S0 by omega) (show _ ≤ 6000000 - pm_sl S0 by omega)
      (g := { F0 m pc rls ((av.reverse ++ r).map (pm_v w)) with stack := r.map (pm_v w) }) (ig := ig) (len := len) rfl (by rw [X.2.2.2.2.2.1]; exact hL.1) (by rw [X.2.2.2.2.1]; exact hdec) (show 2 * 0 + _ ≤ 24 by rw [pm_cats]; omega) hn
    have hS' : va_S (pm_A w) s.heap U'.heap (locs ++ L) := by
      rw [← hT] at hS
      refine ⟨Nat.le_trans hS.1 k5, fun q h1 h2 => (k6 q (Nat.lt_of_lt_of_le h1 hS.1) h2).trans (hS.2.1 q h1 h2), fun q hq => ?_⟩
      rcases List.mem_append.mp hq with h1 | h1
      · exact hS.2.2 q h1
      · exact k7 q h1
    have hle' := hle.tr k4
    have a1 := k4.1
    have a2 := k4.2
    have c1 : pm_n S - pm_n S0 + (pm_n S' - pm_n S) = pm_n S' - pm_n S0 := by omega
    have c2 : pm_sl S - pm_sl S0 + (pm_sl S' - pm_sl S) = pm_sl S' - pm_sl S0 := by omega
    rw [c1, c2] at k8
    cases o with
    | returned v =>
      obtain ⟨t, b1, b2⟩ := hc _ _ _ (hret v S' k1) w p l e s m args below meth c' X U'.heap (locs ++ L) rls k3 k2 hle' hS' hL U' rfl k8
      refine ⟨t, hstep t fun acts => ?_, b2⟩
      rw [doInvoke_state]
      refine (k9 v rfl).trans ?_
      have : (v.map (pm_v w)).toList ++ r.map (pm_v w) = (v.toList ++ r).map (pm_v w) := by cases v <;> simp
      rw [← this] at b1
      exact b1
    | threw a =>
      obtain ⟨t, b1, b2⟩ := hth w p l e s m args below meth c' ls a S' (hthr a S' k1) X U' (locs ++ L) rls (r.map (pm_v w)) k3 k2 hle' hS' hL k8
      refine ⟨t, hstep t fun acts => ?_, b2⟩
      rw [doInvoke_state]
      exact (k10 a rfl).trans b1
  · exact h.elim
def pi_callV (G : pm_M → Prop) (d : Nat) (μ' : pm_Mt) (n : Nat) (chk : pm_M → List Value → Prop) (c : pm_K) : pm_K := fun ls st S => match pm_pop n [] st with
  | some (av, r) => chk S av ∧ (r.map fun v => v.category).sum ≤ 24 ∧ ∃ d' R, d' < d ∧ pm_CV G d' μ' av S R ∧ ∀ S', R S' → c ls r S'
  | none => False
def pi_callI (G : pm_M → Prop) (d : Nat) (μ' : pm_Mt) (n : Nat) (chk : pm_M → List Value → Prop) (c : pm_K) : pm_K := fun ls st S => match pm_pop n [] st with
  | some (av, r) => chk S av ∧ (r.map fun v => v.category).sum ≤ 24 ∧ ∃ d' R, d' < d ∧ pm_CI G d' μ' av S R ∧ ∀ v S', R v S' → c ls (.int v :: r) S'
  | none => False
def pi_callL (G : pm_M → Prop) (d : Nat) (μ' : pm_Mt) (n : Nat) (chk : pm_M → List Value → Prop) (c : pm_K) : pm_K := fun ls st S => match pm_pop n [] st with
  | some (av, r) => chk S av ∧ (r.map fun v => v.category).sum ≤ 24 ∧ ∃ d' R, d' < d ∧ pm_CL G d' μ' av S R ∧ ∀ v S', R v S' → c ls (.long v :: r) S'
  | none => False
def pi_callR (G : pm_M → Prop) (d : Nat) (μ' : pm_Mt) (n : Nat) (chk : pm_M → List Value → Prop) (c : pm_K) : pm_K := fun ls st S => match pm_pop n [] st with
  | some (av, r) => chk S av ∧ (r.map fun v => v.category).sum ≤ 24 ∧ ∃ d' R, d' < d ∧ pm_CR G d' μ' av S R ∧ ∀ v S', R v S' → c ls (.ref v :: r) S'
  | none => False
theorem pm_Th.no : pm_Th μ G d S0 Q pc (fun _ _ _ => False) := by
  intro w p l e s m args below meth c ls a S h
  exact h.elim
theorem ps_callV {μ' : pm_Mt} {n len : Nat} {chk : pm_M → List Value → Prop} (hlk : pm_Lk μ G pc len μ' n chk) (hM : pm_MOK μ') (hmx : μ'.2.2.1 ≤ 29) (hc : pm_S μ G d S0 Q (pc + len) c) : pm_S μ G d S0 Q pc (pi_callV G d μ' n chk c) := by
  intro ls st S h
  refine ps_callT hlk hM hmx pm_Th.no hc ls st S ?_
  unfold pi_callV at h
  unfold pi_callT
  split at h
  · rename_i av r hpop
    obtain ⟨h1, h2, d', R, h3, h4, h5⟩ := h
    refine ⟨h1, h2, d', _, h3, h4, fun v S' hv => ?_, fun a S' ha => ?_⟩
    · obtain ⟨e, hv⟩ := hv; cases e; exact h5 S' hv
    · obtain ⟨e, -⟩ := ha; cases e
  · exact h.elim
theorem ps_callI {μ' : pm_Mt} {n len : Nat} {chk : pm_M → List Value → Prop} (hlk : pm_Lk μ G pc len μ' n chk) (hM : pm_MOK μ') (hmx : μ'.2.2.1 ≤ 29) (hc : pm_S μ G d S0 Q (pc + len) c) : pm_S μ G d S0 Q pc (pi_callI G d μ' n chk c) := by
  intro ls st S h
  refine ps_callT hlk hM hmx pm_Th.no hc ls st S ?_
  unfold pi_callI at h
  unfold pi_callT
  split at h
  · rename_i av r hpop
    obtain ⟨h1, h2, d', R, h3, h4, h5⟩ := h
    refine ⟨h1, h2, d', _, h3, h4, fun v S' hv => ?_, fun a S' ha => ?_⟩
    · obtain ⟨v, e, hv⟩ := hv; cases e; exact h5 v S' hv
    · obtain ⟨v, e, -⟩ := ha; cases e
  · exact h.elim
theorem ps_callL {μ' : pm_Mt} {n len : Nat} {chk : pm_M → List Value → Prop} (hlk : pm_Lk μ G pc len μ' n chk) (hM : pm_MOK μ') (hmx : μ'.2.2.1 ≤ 29) (hc : pm_S μ G d S0 Q (pc + len) c) : pm_S μ G d S0 Q pc (pi_callL G d μ' n chk c) := by
  intro ls st S h
  refine ps_callT hlk hM hmx pm_Th.no hc ls st S ?_
  unfold pi_callL at h
  unfold pi_callT
  split at h
  · rename_i av r hpop
    obtain ⟨h1, h2, d', R, h3, h4, h5⟩ := h
    refine ⟨h1, h2, d', _, h3, h4, fun v S' hv => ?_, fun a S' ha => ?_⟩
    · obtain ⟨v, e, hv⟩ := hv; cases e; exact h5 v S' hv
    · obtain ⟨v, e, -⟩ := ha; cases e
  · exact h.elim
theorem ps_callR {μ' : pm_Mt} {n len : Nat} {chk : pm_M → List Value → Prop} (hlk : pm_Lk μ G pc len μ' n chk) (hM : pm_MOK μ') (hmx : μ'.2.2.1 ≤ 29) (hc : pm_S μ G d S0 Q (pc + len) c) : pm_S μ G d S0 Q pc (pi_callR G d μ' n chk c) := by
  intro ls st S h
  refine ps_callT hlk hM hmx pm_Th.no hc ls st S ?_
  unfold pi_callR at h
  unfold pi_callT
  split at h
  · rename_i av r hpop
    obtain ⟨h1, h2, d', R, h3, h4, h5⟩ := h
    refine ⟨h1, h2, d', _, h3, h4, fun v S' hv => ?_, fun a S' ha => ?_⟩
    · obtain ⟨v, e, hv⟩ := hv; cases e; exact h5 v S' hv
    · obtain ⟨v, e, -⟩ := ha; cases e
  · exact h.elim
/-- the parameters of a method are as many as its descriptor says -/
def pm_np (y : MethodName) (n : Nat) : Prop := (parseMethodDescriptor y.desc).map (fun d => d.parameters.length) = some n
theorem pm_np.eq {y : MethodName} {n : Nat} (h : pm_np y n) {k : Nat} (hk : k = n) : ∀ sig, parseMethodDescriptor y.desc = some sig → k = sig.parameters.length := by
  intro sig hs
  unfold pm_np at h
  rw [hs] at h
  rw [hk]
  exact (Option.some.inj h).symm
def pm_nMH (y : MethodName) : Prop := y.cls ≠ "java/lang/invoke/MethodHandle" ∧ y.cls ≠ "java/lang/invoke/VarHandle"
def pm_rcv (pre : pm_M → Nat → Prop) : pm_M → List Value → Prop := fun S av => match av with
  | .ref b :: _ => pre S b
  | _ => False
theorem pm_recv {w : pm_W} {S : pm_M} {s : State} {H : Heap} {b ci : Nat} {r : vw_C} (hw : pm_WOK w) (hK : pm_KX w s) (hH : pm_HR w S H) (hb : (pm_hd S b).1 = ci) (hci : ci < 50) (hr : pm_cl[ci]? = some r) : ∃ cell : Cell, H[pm_f w b]? = some cell ∧ cell.vm.isStatics = false ∧ s.vm.findClass r.1 = some cell.cls := by
  obtain ⟨-, -, h3⟩ := hH.obj hb hci
  exact va_recv (pm_KX.K hw hK) hH.1 hr h3
theorem pm_lkV {C : String} {idx ci n : Nat} {μ' : pm_Mt} {pre : pm_M → Nat → Prop} {r : vw_C} (hd : decode μ.2.1 pc = .ok (.invokevirtual idx, 3)) (hg : ∀ S b, G S → pre S b → (pm_hd S b).1 = ci) (hci : ci < 50) (hr : pm_cl[ci]? = some r) (hC : r.1 = C)
    (hl : Cond.methodLink μ.1.cls idx μ'.1 ∈ lw_all) (hi : Cond.instanceMethod μ'.1 ∈ lw_all) (hs : Cond.selects C μ'.1 μ'.1 ∈ lw_all) (hcw : pm_cw μ' ∈ lw_all) (hy : pm_nMH μ'.1) (hnp : pm_np μ'.1 n) : pm_Lk μ G pc 3 μ' (n + 1) (pm_rcv pre) := by
  intro w S0 S p l e R s m args below meth c T locs cells slots g av rest X XX hH hG hgm hgp hsz hst hlen hchk
  refine ⟨⟨_, hd⟩, ?_⟩
  unfold pm_rcv at hchk
  split at hchk
  · rename_i b as
    obtain ⟨cellB, hcell, hobj, hcls⟩ := pm_recv X.1 X.2.1 hH (hg S b hG hchk) hci hr
    rw [hC] at hcls
    obtain ⟨mk, methM, hnamed, hmethM, hstM, habM⟩ := Cond.instanceMethod_spec (pm_word X.1 X.2.1 hi args)
    obtain ⟨c2, r2, m2, q1, q2, q3, q4, kP, hkP, hkPi⟩ := Cond.selects_spec (pm_word X.1 X.2.1 hs args)
    cases hcls.symm.trans q1
    cases (State.methodFound?_of_named hnamed hy).symm.trans q2
    cases hnamed.symm.trans q3
    have hselP : selectMethod e.platform s.vm cellB.cls mk = .method mk := by rw [Launch.admits_selectMethod XX.admits]; exact q4
    obtain ⟨meth2, c2', hm2, hc2, -⟩ := pm_his hnamed (pm_word X.1 X.2.1 hcw args)
    cases hmethM.symm.trans hm2
    obtain ⟨-, -, -, -, -, hsig⟩ := pm_exc (w := w) hnamed hmethM hc2 (pm_word X.1 X.2.1 hcw args)
    obtain ⟨vm₁, X₁, hstep₁⟩ := XX.invokevirtual X.2.2.2.1 X.2.2.2.2.2.2.2.1 (pm_word X.1 X.2.1 hl args) hnamed hmethM hstM hkP hkPi hy (a := pm_f w b) (cell := cellB) hcell
      (fun z h => by rw [h] at hobj; cases hobj) hselP hmethM habM hkP hkPi (g := g) hgm (argsL := as.map (pm_v w)) (rest := rest) (hnp.eq (by simp at hlen ⊢; exact hlen) _ hsig) (by rw [hst]; simp [pm_v]) (by rw [X.2.2.2.2.1, hgp]; exact hd)
    exact ⟨vm₁, mk, X₁, X₁.named hnamed, hstep₁⟩
  · exact hchk.elim
theorem pm_lkS {idx n : Nat} {μ' : pm_Mt} (hd : decode μ.2.1 pc = .ok (.invokestatic idx, 3)) (hl : Cond.methodLink μ.1.cls idx μ'.1 ∈ lw_all) (hs : Cond.static μ'.1 ∈ lw_all) (hini : Cond.initialized μ'.1.cls ∈ lw_all) (hcw : pm_cw μ' ∈ lw_all) (hin : Cond.code μ'.1 μ'.2.1 μ'.2.2.1 μ'.2.2.2.1 ∈ lw_all) (hy : pm_nMH μ'.1) (hnp : pm_np μ'.1 n) : pm_Lk μ G pc 3 μ' n (fun _ _ => True) := by
  intro w S0 S p l e R s m args below meth c T locs cells slots g av rest X XX hH hG hgm hgp hsz hst hlen hchk
  refine ⟨⟨_, hd⟩, ?_⟩
  obtain ⟨mk, hnamed⟩ := Cond.code_named (pm_word X.1 X.2.1 hin args)
  obtain ⟨methM, cM, hmethM, -, -, -, -, -, -, hsigM⟩ := Cond.code_spec hnamed (pm_word X.1 X.2.1 hin args)
  have hstatic : methM.isStatic = true := Cond.static_spec hnamed hmethM (pm_word X.1 X.2.1 hs args)
  obtain ⟨kP, hkP, -⟩ := className_of_methodNamed hnamed
  have hinitP : kP.init = .initialized := Cond.initialized_spec (findClass_of_methodNamed hnamed) hkP (pm_word X.1 X.2.1 hini args)
  obtain ⟨vm₁, X₁, hstep₁⟩ := XX.invokestatic X.2.2.2.1 X.2.2.2.2.2.2.2.1 (pm_word X.1 X.2.1 hl args) hnamed hmethM hstatic hkP hinitP hy (g := g) hgm (argsL := av.map (pm_v w)) (rest := rest) (hnp.eq (by simp [hlen]) _ hsigM) hst (by rw [X.2.2.2.2.1, hgp]; exact hd)
  exact ⟨vm₁, mk, X₁, X₁.named hnamed, hstep₁⟩
def pm_any : pm_M → List Value → Prop := fun _ av => match av with
  | .ref _ :: _ => True
  | _ => False
theorem pm_lkI {idx n : Nat} {μ' : pm_Mt} (hd : decode μ.2.1 pc = .ok (.invokespecial idx, 3)) (hin : μ'.1.name = "<init>") (hl : Cond.methodLink μ.1.cls idx μ'.1 ∈ lw_all) (hi : Cond.instanceMethod μ'.1 ∈ lw_all) (hcd : Cond.code μ'.1 μ'.2.1 μ'.2.2.1 none ∈ lw_all) (hy : pm_nMH μ'.1) (hnp : pm_np μ'.1 n) : pm_Lk μ G pc 3 μ' (n + 1) pm_any := by
  intro w S0 S p l e R s m args below meth c T locs cells slots g av rest X XX hH hG hgm hgp hsz hst hlen hchk
  refine ⟨⟨_, hd⟩, ?_⟩
  unfold pm_any at hchk
  split at hchk
  · rename_i b as
    subst hgm
    have hpl : e.platform.magicAccessors = ({} : Platform).magicAccessors := by rw [XX.admits.platform]
    obtain ⟨mk, methM, cM, kP, vm₁, hnamed, hmethM, hcodeM, -, hlocalsM, -, hkP, -, hW₁, hstep₁⟩ := Steps.initColdArgs (e := e) XX.here X.2.2.2.1 XX.warmed hpl X.2.2.2.2.2.2.2.1 hin hy (pm_word X.1 X.2.1 hl args) (pm_word X.1 X.2.1 hi args) (pm_word X.1 X.2.1 hcd args) (f := g) (a := pm_f w b) (argsL := as.map (pm_v w)) (rest := rest) rfl (hnp.eq (by simp at hlen ⊢; exact hlen)) (by rw [hst]; simp [pm_v]) (by rw [X.2.2.2.2.1, hgp]; exact hd)
    have X₁ := XX.noted hW₁
    exact ⟨vm₁, mk, X₁, X₁.named hnamed, hstep₁⟩
  · exact hchk.elim
theorem pm_nM {w : pm_W} {U : State} (hw : pm_WOK w) (hK : pm_KX w U) {a : String} {i : Nat} {x : MethodName} {h : String} (hx : Cond.methodLinkNest a i x h ∈ lw_tbl) (A : Array Value) : (Cond.methodLinkNest a i x h).before A U = true :=
  va_Nw.use rfl (va_Nw.warmM hK.1 (va_Nw.of rfl (hw.1 _ hx)))
theorem pm_lkIN {idx n : Nat} {μ' : pm_Mt} {host : String} (hd : decode μ.2.1 pc = .ok (.invokespecial idx, 3)) (hin : μ'.1.name = "<init>") (hl : Cond.methodLinkNest μ.1.cls idx μ'.1 host ∈ lw_tbl) (hi : Cond.instanceMethod μ'.1 ∈ lw_all) (hcd : Cond.code μ'.1 μ'.2.1 μ'.2.2.1 none ∈ lw_all) (hy : pm_nMH μ'.1) (hnp : pm_np μ'.1 n) : pm_Lk μ G pc 3 μ' (n + 1) pm_any := by
  intro w S0 S p l e R s m args below meth c T locs cells slots g av rest X XX hH hG hgm hgp hsz hst hlen hchk
  refine ⟨⟨_, hd⟩, ?_⟩
  unfold pm_any at hchk
  split at hchk
  · rename_i b as
    subst hgm
    have hpl : e.platform.magicAccessors = ({} : Platform).magicAccessors := by rw [XX.admits.platform]
    obtain ⟨mk, methM, cM, kP, vm₁, hnamed, hmethM, hcodeM, -, hlocalsM, -, hkP, -, hW₁, hstep₁⟩ := Steps.initColdArgsNest (e := e) XX.here X.2.2.2.1 XX.warmed hpl X.2.2.2.2.2.2.2.1 hin hy (pm_nM X.1 X.2.1 hl args) (pm_word X.1 X.2.1 hi args) (pm_word X.1 X.2.1 hcd args) (f := g) (a := pm_f w b) (argsL := as.map (pm_v w)) (rest := rest) rfl (hnp.eq (by simp at hlen ⊢; exact hlen)) (by rw [hst]; simp [pm_v]) (by rw [X.2.2.2.2.1, hgp]; exact hd)
    have X₁ := XX.noted hW₁
    exact ⟨vm₁, mk, X₁, X₁.named hnamed, hstep₁⟩
  · exact hchk.elim
theorem pm_lkSN {idx n : Nat} {μ' : pm_Mt} {host : String} (hd : decode μ.2.1 pc = .ok (.invokestatic idx, 3)) (hl : Cond.methodLinkNest μ.1.cls idx μ'.1 host ∈ lw_tbl) (hs : Cond.static μ'.1 ∈ lw_all) (hini : Cond.initialized μ'.1.cls ∈ lw_all) (hin : Cond.code μ'.1 μ'.2.1 μ'.2.2.1 μ'.2.2.2.1 ∈ lw_all) (hy : pm_nMH μ'.1) (hnp : pm_np μ'.1 n) : pm_Lk μ G pc 3 μ' n (fun _ _ => True) := by
  intro w S0 S p l e R s m args below meth c T locs cells slots g av rest X XX hH hG hgm hgp hsz hst hlen hchk
  refine ⟨⟨_, hd⟩, ?_⟩
  obtain ⟨mk, hnamed⟩ := Cond.code_named (pm_word X.1 X.2.1 hin args)
  obtain ⟨methM, cM, hmethM, -, -, -, -, -, -, hsigM⟩ := Cond.code_spec hnamed (pm_word X.1 X.2.1 hin args)
  have hstatic : methM.isStatic = true := Cond.static_spec hnamed hmethM (pm_word X.1 X.2.1 hs args)
  obtain ⟨kP, hkP, -⟩ := className_of_methodNamed hnamed
  have hinitP : kP.init = .initialized := Cond.initialized_spec (findClass_of_methodNamed hnamed) hkP (pm_word X.1 X.2.1 hini args)
  obtain ⟨vm₁, X₁, hstep₁⟩ := XX.invokestaticNest X.2.2.2.1 X.2.2.2.2.2.2.2.1 (pm_nM X.1 X.2.1 hl args) hnamed hmethM hstatic hkP hinitP hy (g := g) hgm (argsL := av.map (pm_v w)) (rest := rest) (hnp.eq (by simp [hlen]) _ hsigM) hst (by rw [X.2.2.2.2.1, hgp]; exact hd)
  exact ⟨vm₁, mk, X₁, X₁.named hnamed, hstep₁⟩
end PC
