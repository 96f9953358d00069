/-! ===== lookupswitch; calls that land in a default method ===== -/
set_option maxRecDepth 100000
theorem pm_lsw_off : ∀ (prs : List (Int × Int)) (vs : List Int) (ts : List Nat) (dt pc : Nat) (dflt : Int) (x : Int), prs = (vs.zip ts).map (fun z => (z.1, (z.2 : Int) - (pc : Int))) → vs.length = ts.length → (pc : Int) + dflt = (dt : Int) →
    (pc : Int) + Op.lookupswitch.offset prs dflt x = (pm_swt vs ts dt x : Int)
  | prs, [], [], dt, pc, dflt, x, h, _, hd => by
    subst h
    exact hd
  | prs, v :: vs, t :: ts, dt, pc, dflt, x, h, hl, hd => by
    subst h
    simp only [List.zip_cons_cons, List.map_cons, Op.lookupswitch.offset_cons, pm_swt]
    by_cases e : x = v
    · rw [if_pos e.symm, if_pos e]
      omega
    · rw [if_neg (fun q => e q.symm), if_neg e]
      exact pm_lsw_off _ vs ts dt pc dflt x rfl (by simpa using hl) hd
  | prs, [], t :: ts, dt, pc, dflt, x, h, hl, hd => by cases hl
  | prs, v :: vs, [], dt, pc, dflt, x, h, hl, hd => by cases hl
section PSL
variable {μ : pm_Mt} {G : pm_M → Prop} {d : Nat} {S0 : pm_M} {Q : Outcome → pm_M → Prop} {pc : Nat}
theorem ps_lsw {cd : pm_K} {dflt : Int} {prs : Array (Int × Int)} {len dt : Nat} {qs : List (Int32 × pm_K)} (ts : List Nat) (hd : decode μ.2.1 pc = .ok (.lookupswitch dflt prs, len)) (us : List Int32) (hus : qs.map (fun q => q.1) = us) (vs : List Int) (hvs : us.map (fun v => v.toInt) = vs)
    (hso : (prs.toList.zip (prs.toList.drop 1)).all (fun (a, next) => a.1 < next.1) = true) (hck : prs.toList = (vs.zip ts).map (fun z => (z.1, (z.2 : Int) - (pc : Int)))) (hln : vs.length = ts.length)
    (hdt : (pc : Int) + dflt = (dt : Int)) (h1 : pm_F2 μ G d S0 Q ts qs) (h2 : pm_S μ G d S0 Q dt cd) : pm_S μ G d S0 Q pc (pi_sw qs cd) := by
  intro ls st S h
  obtain ⟨x, r, rfl⟩ := pi_sw_int qs h
  have hv : qs.map (fun q => q.1.toInt) = vs := by
    rw [← hvs, ← hus, List.map_map]
    rfl
  have hgo := pm_sw_go h2 qs ts h1 h
  rw [hv] at hgo
  intro w p l e s m args below meth c' X H locs rls hH hG hle hS hL
  exact lv_lookup (tgt := pm_swt vs ts dt x.toInt) X.2.2.2.1 X.2.2.2.2.1 hd hso rfl (pm_lsw_off _ vs ts dt pc dflt x.toInt hck hln hdt) (hgo w p l e s m args below meth c' X H locs rls hH hG hle hS hL)
end PSL
/-- of more numbers than places two fall together -/
theorem pm_pigeon : ∀ (n : Nat) (f : Nat → Nat), (∀ i, i ≤ n → f i < n) → ∃ i j, i < j ∧ j ≤ n ∧ f i = f j
  | 0, f, h => absurd (h 0 (Nat.le_refl _)) (Nat.not_lt_zero _)
  | n + 1, f, h => by
    by_cases hx : ∃ i, i < n + 1 ∧ f i = f (n + 1)
    · obtain ⟨i, h1, h2⟩ := hx
      exact ⟨i, n + 1, h1, Nat.le_refl _, h2⟩
    · have hne : ∀ i, i < n + 1 → f i ≠ f (n + 1) := fun i hi e => hx ⟨i, hi, e⟩
      obtain ⟨i, j, h1, h2, h3⟩ := pm_pigeon n (fun i => if f i < f (n + 1) then f i else f i - 1) (fun i hi => by
        have a := h i (by omega)
        have b := h (n + 1) (Nat.le_refl _)
        have c := hne i (by omega)
        by_cases q : f i < f (n + 1)
        · simp only [if_pos q]; omega
        · simp only [if_neg q]; omega)
      refine ⟨i, j, h1, by omega, ?_⟩
      have c1 := hne i (by omega)
      have c2 := hne j (by omega)
      by_cases q1 : f i < f (n + 1) <;> by_cases q2 : f j < f (n + 1)
      · simp only [if_pos q1, if_pos q2] at h3; exact h3
      · simp only [if_pos q1, if_neg q2] at h3; omega
      · simp only [if_neg q1, if_pos q2] at h3; omega
      · simp only [if_neg q1, if_neg q2] at h3; omega
def pm_ch (vm : Vm) (c : ClassId) : Nat → Option ClassId
  | 0 => some c
  | n + 1 => (pm_ch vm c n).bind fun x => (vm.classes[x]?).bind (·.super)
theorem pm_ch_up {vm : Vm} {c q : ClassId} (h : (vm.classes[c]?).bind (·.super) = some q) : ∀ n, pm_ch vm c (n + 1) = pm_ch vm q n
  | 0 => by simp [pm_ch, h]
  | n + 1 => by
    rw [pm_ch, pm_ch_up h n]
    rfl
theorem pm_ch_add {vm : Vm} {c : ClassId} {i j : Nat} (h : pm_ch vm c i = pm_ch vm c j) : ∀ t, pm_ch vm c (i + t) = pm_ch vm c (j + t)
  | 0 => h
  | t + 1 => by
    show pm_ch vm c (i + t + 1) = pm_ch vm c (j + t + 1)
    rw [pm_ch, pm_ch, pm_ch_add h t]
theorem pm_ch_mem (vm : Vm) : ∀ (n : Nat) (c x : ClassId), x ∈ vm.superclassesAux n c → ∃ i, i ≤ n ∧ pm_ch vm c i = some x
  | 0, c, x, h => by cases h
  | n + 1, c, x, h => by
    unfold Vm.superclassesAux at h
    split at h
    · rename_i q hq
      rcases List.mem_cons.mp h with rfl | h
      · exact ⟨1, by omega, by rw [pm_ch_up hq]; rfl⟩
      · obtain ⟨i, h1, h2⟩ := pm_ch_mem vm n q x h
        exact ⟨i + 1, by omega, by rw [pm_ch_up hq]; exact h2⟩
    · cases h
theorem pm_ch_pre {vm : Vm} {c x : ClassId} {j : Nat} (h : pm_ch vm c (j + 1) = some x) : ∃ y, pm_ch vm c j = some y ∧ y < vm.classes.size := by
  rw [pm_ch] at h
  cases hy : pm_ch vm c j with
  | none => rw [hy] at h; cases h
  | some y =>
    rw [hy] at h
    refine ⟨y, rfl, ?_⟩
    cases hk : vm.classes[y]? with
    | none => simp [hk] at h
    | some k => exact (Array.getElem?_eq_some_iff.mp hk).1
theorem pm_ch_all {vm : Vm} {c : ClassId} : ∀ (n : Nat) (x : ClassId), pm_ch vm c n = some x → ∀ i, i < n → ∃ y, pm_ch vm c i = some y ∧ y < vm.classes.size
  | 0, x, h, i, hi => absurd hi (Nat.not_lt_zero _)
  | n + 1, x, h, i, hi => by
    obtain ⟨y, h1, h2⟩ := pm_ch_pre h
    by_cases e : i = n
    · subst e; exact ⟨y, h1, h2⟩
    · exact pm_ch_all n y h1 i (by omega)
/-- no chain is longer than the table -/
theorem pm_ch_short {vm : Vm} {c x : ClassId} {i : Nat} (hi : i ≤ vm.classes.size + 1) (h : pm_ch vm c i = some x) : ∃ j, j < vm.classes.size + 1 ∧ pm_ch vm c j = some x := by
  by_cases e : i < vm.classes.size + 1
  · exact ⟨i, e, h⟩
  · have e : i = vm.classes.size + 1 := by omega
    subst e
    have hall := pm_ch_all _ x h
    obtain ⟨a, b, h1, h2, h3⟩ := pm_pigeon vm.classes.size (fun i => (pm_ch vm c i).getD 0) (fun i hi => by
      obtain ⟨y, e1, e2⟩ := hall i (by omega)
      simp only [e1, Option.getD_some]
      exact e2)
    obtain ⟨ya, ea, -⟩ := hall a (by omega)
    obtain ⟨yb, eb, -⟩ := hall b (by omega)
    simp only [ea, eb, Option.getD_some] at h3
    have := pm_ch_add (vm := vm) (c := c) (i := a) (j := b) (by rw [ea, eb, h3]) (vm.classes.size + 1 - b)
    refine ⟨a + (vm.classes.size + 1 - b), by omega, ?_⟩
    rw [this, show b + (vm.classes.size + 1 - b) = vm.classes.size + 1 by omega]
    exact h
theorem pm_lkn (vm : Vm) (name desc : String) : ∀ (n : Nat) (c : ClassId), lookupInSuperclasses vm name desc n c = none → ∀ i, i < n → ∀ x k, pm_ch vm c i = some x → vm.classes[x]? = some k → k.findMethod name desc = none
  | 0, c, h, i, hi, x, k, h1, h2 => absurd hi (Nat.not_lt_zero _)
  | n + 1, c, h, i, hi, x, k, h1, h2 => by
    unfold lookupInSuperclasses at h
    cases hk : vm.classes[c]? with
    | none =>
      cases i with
      | zero => cases h1; rw [hk] at h2; cases h2
      | succ i =>
        obtain ⟨y, q1, q2⟩ := pm_ch_all _ _ h1 0 (by omega)
        have q1 : c = y := Option.some.inj q1
        subst q1
        have := Array.getElem?_eq_none_iff.mp hk
        exact absurd q2 (Nat.not_lt.mpr this)
    | some kc =>
      simp only [hk, Option.bind_eq_bind, Option.bind_some] at h
      cases hf : kc.findMethod name desc with
      | some j => simp [hf] at h
      | none =>
        cases i with
        | zero => cases h1; rw [hk] at h2; cases h2; exact hf
        | succ i =>
          cases hs : kc.super with
          | none =>
            have hno : ∀ t, pm_ch vm c (t + 1) = none := fun t => by
              induction t with
              | zero => simp [pm_ch, hk, hs]
              | succ t ih => rw [pm_ch, ih]; rfl
            rw [hno i] at h1
            cases h1
          | some q =>
            have hq : (vm.classes[c]?).bind (·.super) = some q := by rw [hk]; exact hs
            rw [pm_ch_up hq] at h1
            refine pm_lkn vm name desc n q ?_ i (by omega) x k h1 h2
            simpa [hf, hs] using h

theorem pm_selIn (vm : Vm) (mR : MethodId) (name desc : String) : ∀ (n : Nat) (c : ClassId), (∀ i, i < n → ∀ x k, pm_ch vm c i = some x → vm.classes[x]? = some k → k.findMethod name desc = none) → selectInSuperclasses vm mR name desc n c = none
  | 0, c, h => rfl
  | n + 1, c, h => by
    unfold selectInSuperclasses
    cases hk : vm.classes[c]? with
    | none => rfl
    | some kc =>
      have hf := h 0 (by omega) c kc rfl hk
      simp only [Option.bind_eq_bind, Option.bind_some, hf, Option.bind_none]
      cases hs : kc.super with
      | none => rfl
      | some q =>
        have hq : (vm.classes[c]?).bind (·.super) = some q := by rw [hk]; exact hs
        have := pm_selIn vm mR name desc n q (fun i hi x k h1 h2 => h (i + 1) (by omega) x k (by rw [pm_ch_up hq]; exact h1) h2)
        simp [this]
/-- super.m(..) that lands in a default method -/
theorem pm_lsp {vm : Vm} {pf : Platform} {c : ClassId} {k : Class} {m : MethodId} {meth : Method} (hk : vm.classes[c]? = some k) (hni : k.isInterface = false) (hup : vm.lookupUp c meth.name meth.desc = some m) (hm : vm.method? m = some meth) (hst : meth.isStatic = false) (hpr : meth.isPrivate = false) (hsel : selectMethod pf vm c m = .method m) :
    lookupSpecial vm c meth.name meth.desc = .method m := by
  cases hl : lookupInSuperclasses vm meth.name meth.desc (vm.classes.size + 1) c with
  | some m' => exact lookupSpecial_of_lookupUp hk hni hup (by rw [hl]; rfl) hm hst
  | none =>
    have hno := pm_lkn vm meth.name meth.desc _ c hl
    have hab : superclassMethods vm c meth.name meth.desc = [] := by
      unfold superclassMethods
      rw [List.filterMap_eq_nil_iff]
      intro x hx
      obtain ⟨i, h1, h2⟩ := pm_ch_mem vm _ c x hx
      obtain ⟨j, h3, h4⟩ := pm_ch_short h1 h2
      cases hkx : vm.classes[x]? with
      | none => rfl
      | some kx => simp [hno j h3 x kx h4 hkx]
    have how : (vm.classes[c]?.bind (·.findMethod meth.name meth.desc)) = none := by
      rw [hk]
      exact hno 0 (by omega) c k rfl hk
    have hrf : refusedOverriding pf vm c meth.name meth.desc = false := by
      simp [refusedOverriding, how, hab]
    have hsi := pm_selIn vm m meth.name meth.desc _ c hno
    simp only [selectMethod, hm, hpr, hrf, hsi, Bool.false_eq_true, if_false, Bool.false_and] at hsel
    simp only [lookupSpecial, how, hab, Option.map_none, Option.toList_none, List.filter_nil, List.append_nil, List.find?_nil]
    exact hsel
/-- what the nearest class that holds something holds is the default m, or there is none -/
def pm_nh (vm : Vm) (c : ClassId) (name desc : String) (m : MethodId) : Prop := ∀ q, nearestHeld vm c name desc = some q → q.2 = .nothing ∨ q.2 = .default m
theorem pm_anyC {vm vm' : Vm} (h : vm.Alike vm') (f : Class → Bool) (hf : ∀ k : Class, f k.bare = f k) (c : ClassId) : (vm'.classes[c]?).any f = (vm.classes[c]?).any f := by
  cases hk : vm.classes[c]? with
  | none => rw [h.none hk]
  | some k =>
    obtain ⟨k', hk', he⟩ := h.2.2 _ _ hk
    rw [hk', Option.any_some, Option.any_some, ← hf k', Class.bare_of he, hf]
theorem pm_nhA {vm vm' : Vm} (h : vm.Alike vm') (c : ClassId) (name desc : String) : nearestHeld vm' c name desc = nearestHeld vm c name desc := by
  have e1 : superinterfaceMethods vm' = superinterfaceMethods vm := by rw [← superinterfaceMethods_bare vm', h.bare_eq, superinterfaceMethods_bare]
  have e2 : maximallySpecific vm' = maximallySpecific vm := by rw [← maximallySpecific_bare vm', h.bare_eq, maximallySpecific_bare]
  have e3 := pm_anyC h (·.isInterface) (fun _ => rfl)
  have e4 := pm_anyC h (fun x => x.methods.any fun m => !m.isAbstract && !m.isStatic) (fun _ => rfl)
  have e5 : ∀ (g : ClassId → Bool) (k : ClassId), (vm'.classes[k]?).any (·.interfaces.any g) = (vm.classes[k]?).any (·.interfaces.any g) := fun g => pm_anyC h _ fun _ => rfl
  simp only [nearestHeld, held, h.superclasses, h.declaredIn, h.superinterfaces, h.method?, e1, e2, e3, e4, e5]
theorem pm_lid {args : Array Value} {s : State} {C : String} {x y : MethodName} (h : (Cond.landsInDefault C x y).before args s = true) :
    ∃ c r m rm mk, s.vm.findClass C = some c ∧ s.methodFound? x.cls x.name x.desc = some r ∧ s.methodNamed? y = some m ∧ s.vm.method? r = some rm ∧ selectMethod {} s.vm c r = .method m ∧ s.vm.classes[m.cls]? = some mk ∧ mk.isInterface = true ∧ rm.isPrivate = false ∧ pm_nh s.vm c rm.name rm.desc m := by
  simp only [Cond.before, Cond.holds, Cond.value] at h
  cases hc : s.vm.findClass C with
  | none => simp [hc] at h
  | some c =>
    cases hr : s.methodFound? x.cls x.name x.desc with
    | none => simp [hc, hr] at h
    | some r =>
      cases hm : s.methodNamed? y with
      | none => simp [hc, hr, hm] at h
      | some m =>
        cases hrm : s.vm.method? r with
        | none => simp [hc, hr, hm, hrm] at h
        | some rm =>
          simp only [hc, hr, hm, hrm, Option.map_some, beq_iff_eq, Option.some.injEq] at h
          split at h
          · rename_i m' hsel
            simp only [Bool.and_eq_true, decide_eq_true_eq, Bool.not_eq_true', Option.any_eq_true] at h
            obtain ⟨⟨⟨⟨e, mk, hmk, hi⟩, hp⟩, -⟩, hn⟩ := h
            subst e
            refine ⟨c, r, m', rm, mk, rfl, rfl, rfl, hrm, hsel, hmk, hi, hp, fun q hq => ?_⟩
            obtain ⟨k, hd⟩ := q
            rw [hq] at hn
            cases hd with
            | nothing => exact Or.inl rfl
            | default d => simp only [decide_eq_true_eq] at hn; rw [hn]; exact Or.inr rfl
            | thrower b => cases hn
          · cases h
section DFV
variable {E : CtlPost} {e : Env} {db : Bool} {acts : List Action} {s : State} {f : JFrame}
theorem pm_sv {Q : Selection → Pre} {c : ClassId} {r m : MethodId} {rmeth meth : Method} {mk : Class} (hsel : selectMethod e.platform s.vm c r = .method m) (hrm : s.vm.method? r = some rmeth) (hm : s.vm.method? m = some meth)
    (hmk : s.vm.classes[m.cls]? = some mk) (hitf : mk.isInterface = true) (hn : pm_nh s.vm c rmeth.name rmeth.desc m) : wp (Op.invokeinterface.selectVirtual c r) Q E e db acts s ↔ Q (.method m) db acts s := by
  have hq : ∀ q, nearestHeld s.vm c rmeth.name rmeth.desc = some q → q.2 = .nothing ∨ q.2 = .default m := hn
  cases hp : e.platform.privateHidesDefault with
  | false => simp [Op.invokeinterface.selectVirtual, hrm, Op.selectFor_method hsel hm, hmk, hitf, hp]
  | true =>
    cases hh : nearestHeld s.vm c rmeth.name rmeth.desc with
    | none => simp [Op.invokeinterface.selectVirtual, hrm, Op.selectFor_method hsel hm, hmk, hitf, hp, hh]
    | some q =>
      obtain ⟨k, hd⟩ := q
      rcases hq _ hh with h1 | h1
      · have h1 : hd = .nothing := h1
        subst h1
        simp [Op.invokeinterface.selectVirtual, hrm, Op.selectFor_method hsel hm, hmk, hitf, hp, hh]
      · have h1 : hd = .default m := h1
        subst h1
        simp [Op.invokeinterface.selectVirtual, hrm, Op.selectFor_method hsel hm, hmk, hitf, hp, hh]
end DFV
section DFW
variable {Q : Unit → Pre} {E : CtlPost} {e : Env} {db : Bool} {acts : List Action} {s : State} {f : JFrame}
theorem pm_wpV {index a : Nat} {r m : MethodId} {cn : ClassId} {kr kn mk : Class} {rmeth meth : Method} {av rest : List Value} {cell : Cell}
    (ht : s.topJava?.isSome) (hn : namesResolved s.vm f.method.cls index cn) (hkn : s.vm.classes[cn]? = some kn) (hni : kn.isInterface = false) (hr : s.vm.methodReady f.method.cls index r)
    (hkr : s.vm.classes[r.cls]? = some kr) (hrm : s.vm.method? r = some rmeth) (hpoly : signaturePolymorphic kr rmeth = false) (hst : rmeth.isStatic = false)
    (hlen : av.length = rmeth.sig.parameters.length) (hstack : f.stack = av.reverse ++ .ref a :: rest) (hcell : s.heap[a]? = some cell) (hobj : ∀ c, cell.vm ≠ .statics c)
    (hsel : selectMethod e.platform s.vm cell.cls r = .method m) (hm : s.vm.method? m = some meth) (habs : meth.isAbstract = false) (hmk : s.vm.classes[m.cls]? = some mk) (hitf : mk.isInterface = true) (hnh : pm_nh s.vm cell.cls rmeth.name rmeth.desc m) :
    wp (Op.invokevirtual.sem index) Q E e db acts (s.setTop f) ↔ E (.invoke m (.ref a :: av).toArray) acts (s.setTop { f with stack := rest }) := by
  obtain ⟨kc, cf, ci, n, h1, h2, h3, h4⟩ := hn
  have hpre : ∀ {Q' : ClassId → Pre}, wp (Jvm.refClassAt index) Q' E e db acts (s.setTop f) ↔ Q' cn db acts (s.setTop f) := by
    intro Q'
    rcases h3 with h3 | h3 <;>
      simp [Jvm.refClassAt, Jvm.constantAt, State.method?_setTop f ht, h1, h2, h3, W.resolveClassAt_ready (State.method?_setTop f ht) h4]
  have hV := fun (f1 : JFrame) (Q1 : Selection → Pre) (E1 : CtlPost) (db1 : Bool) (acts1 : List Action) => pm_sv (Q := Q1) (s := s.setTop f1) (e := e) (E := E1) (db := db1) (acts := acts1) (c := cell.cls) (r := r) (m := m) hsel hrm hm hmk hitf hnh
  simp only [Op.invokevirtual.sem, wp_bind', hpre, W.theClass, State.vm_setTop, hkn, Option.some.injEq, exists_eq_left', W.ite, hni, Bool.false_eq_true, if_false, wp_pure', W.resolveMethodAt_ready (State.method?_setTop f ht) hr]
  simp only [W.theMethod, State.vm_setTop, hrm, Option.some.injEq, exists_eq_left', Seam.isPolymorphic, wp_bind', W.theClass, hkr, wp_pure', hpoly, W.ite, Bool.false_eq_true, if_false, hst, Jvm.popArgs, ← hlen, popN_top ht hstack]
  simp [ht, hcell, hobj, hV, hm, habs]
end DFW

section DFL
variable {μ : pm_Mt} {G : pm_M → Prop} {pc : Nat}
theorem pm_wn {w : pm_W} {U : State} (hw : pm_WOK w) (hK : pm_KX w U) {x : Cond} (hx : x ∈ flatC narrow_1) (hg : goodWord x = true) (a : Array Value) : x.before a U = true := word_at hK.1 (good_of_word hg) (hw.2.1 x hx)
/-- a word of the tables, or of the narrowing -/
def pm_wd (x : Cond) : Prop := x ∈ lw_all ∨ (x ∈ flatC narrow_1 ∧ goodWord x = true)
theorem pm_wd.at {w : pm_W} {U : State} (hw : pm_WOK w) (hK : pm_KX w U) {x : Cond} (h : pm_wd x) (a : Array Value) : x.before a U = true := by
  rcases h with h | h
  · exact pm_word hw hK h a
  · exact pm_wn hw hK h.1 h.2 a
theorem pm_lidU {w : pm_W} {U : State} (hw : pm_WOK w) (hK : pm_KX w U) {C owner : String} {x y : MethodName} (hl : Cond.landsInDefault C x y ∈ flatC narrow_1) (hsm : pm_wd (Cond.sameMethod x.cls owner x.name x.desc)) {r0 : MethodId} (hn : U.methodNamed? ⟨owner, x.name, x.desc⟩ = some r0) :
    ∃ c m rm mk, U.vm.findClass C = some c ∧ U.methodNamed? y = some m ∧ U.vm.method? r0 = some rm ∧ selectMethod {} U.vm c r0 = .method m ∧ U.vm.classes[m.cls]? = some mk ∧ mk.isInterface = true ∧ rm.isPrivate = false ∧ pm_nh U.vm c rm.name rm.desc m := by
  have hA := hK.1.alike
  have hs : pm_KX w w.1 := ⟨State.WarmedH.refl _, Nat.le_refl _, fun _ _ => rfl⟩
  obtain ⟨c, r, m, rm, mk, h1, h2, h3, h4, h5, h6, h7, h8, h9⟩ := pm_lid (hw.2.1 _ hl)
  obtain ⟨cn, ck, r1, -, -, -, hf, hn1⟩ := Cond.sameMethod_found (hsm.at hw hs #[])
  cases h2.symm.trans hf
  have e : ∀ z : MethodName, U.methodNamed? z = w.1.methodNamed? z := fun z => State.methodNamed?_setVm (s := w.1) hA z
  have hr : r = r0 := Option.some.inj ((hn1.symm.trans (e _).symm).trans hn)
  subst hr
  obtain ⟨mk', hmk', he⟩ := hA.2.2 _ _ h6
  refine ⟨c, m, rm, mk', ?_, ?_, ?_, ?_, hmk', ?_, h8, ?_⟩
  · rw [hA.findClass]; exact h1
  · rw [e]; exact h3
  · rw [hA.method?]; exact h4
  · rw [hA.selectMethod]; exact h5
  · rw [he]; exact h7
  · intro q hq; rw [pm_nhA hA] at hq; exact h9 q hq
end DFL
section DFM
variable {μ : pm_Mt} {G : pm_M → Prop} {pc : Nat}
/-- x.m(..) that lands in a default method -/
theorem pm_lkVD {C owner : String} {idx ci n : Nat} {x : MethodName} {μ' : pm_Mt} {r : vw_C} (hd : decode μ.2.1 pc = .ok (.invokevirtual idx, 3)) (hci : ci < 50) (hr : pm_cl[ci]? = some r) (hC : r.1 = C)
    (hl : pm_wd (Cond.methodLink μ.1.cls idx x)) (hsm : pm_wd (Cond.sameMethod x.cls owner x.name x.desc)) (hdc : pm_Dcl ⟨owner, x.name, x.desc⟩) (ho : owner ≠ "java/lang/invoke/MethodHandle" ∧ owner ≠ "java/lang/invoke/VarHandle")
    (hs : Cond.landsInDefault C x μ'.1 ∈ flatC narrow_1) (hi : Cond.instanceMethod μ'.1 ∈ lw_all) (hnp : pm_np x n) : pm_Lk μ G pc 3 μ' (n + 1) (pm_rcv (pm_is ci)) := by
  intro w S0 S p l e R s m args below meth c T locs cells slots g av rest X XX hH hG hgm hgp hsz hst hlen hchk
  refine ⟨⟨_, hd⟩, ?_⟩
  unfold pm_rcv at hchk
  split at hchk
  · rename_i b as
    obtain ⟨cell, hcell, hobj, hcls⟩ := pm_recv X.1 X.2.1 hH (show (pm_hd S b).1 = ci from hchk) hci hr
    rw [hC] at hcls
    obtain ⟨r0, rm, hn, hrm, hstR, hsigR⟩ := hdc.at X.1 X.2.1
    obtain ⟨cn, ck, r1, hcn, hck, hni, hf, hn1⟩ := Cond.sameMethod_found (hsm.at X.1 X.2.1 args)
    cases hn.symm.trans hn1
    obtain ⟨mk, methM, hnamed, hmethM, -, habM⟩ := Cond.instanceMethod_spec (pm_word X.1 X.2.1 hi args)
    obtain ⟨c2, m2, rm2, kP, q1, q3, q5, q4, hkP, hkPi, -, q7⟩ := pm_lidU X.1 X.2.1 hs hsm hn
    cases hcls.symm.trans q1
    cases hnamed.symm.trans q3
    cases hrm.symm.trans q5
    have hsel : selectMethod e.platform s.vm cell.cls r0 = .method mk := by rw [Launch.admits_selectMethod XX.admits]; exact q4
    have hpl : e.platform.magicAccessors = ({} : Platform).magicAccessors := by rw [XX.admits.platform]
    obtain ⟨ix, hlk, hright⟩ := Cond.methodLink_specUp X.2.2.2.2.2.2.2.1 hcn hck hni hf (hl.at X.1 X.2.1 args) e.platform hpl (by rw [XX.admits.platform])
    have hE : s.MethodEntryUp e T.vm m.cls idx cn r0 ix := State.methodEntryUp XX.warmed hlk hright
    obtain ⟨kr, hkr, hnr⟩ := className_of_methodNamed hn
    obtain ⟨dk, cfile, nt, _, _, _, _, _, hdk, hcf, hcp, -⟩ := hlk.here
    have hA := hE.warmed.alike
    obtain ⟨dk₂, hdk₂, hres⟩ := hE.classReady
    obtain ⟨dk₃, hdk₃, hed⟩ := hA.2.2 _ _ hdk
    cases hdk₂.symm.trans hdk₃
    obtain ⟨kr₂, hkr₂, her⟩ := hA.2.2 _ _ hkr
    obtain ⟨ck₂, hck₂, hec⟩ := hA.2.2 _ _ hck
    obtain ⟨kP₂, hkP₂, hem⟩ := hA.2.2 _ _ hkP
    have X₁ := XX.noted hE.warmed
    refine ⟨T.vm.calledUp m.cls ix idx cn r0, mk, X₁, X₁.named hnamed, fun target hrest => ?_⟩
    have hdg : decode c.code g.pc = .ok (.invokevirtual idx, 3) := by rw [X.2.2.2.2.1, hgp]; exact hd
    have hstk : g.stack = (as.map (pm_v w)).reverse ++ .ref (pm_f w b) :: rest := by rw [hst]; simp [pm_v]
    have hln : (as.map (pm_v w)).length = rm.sig.parameters.length := hnp.eq (by simp at hlen ⊢; exact hlen) _ hsigR
    subst hgm
    jvm_step XX.here [X.2.2.2.1, hdg, Op.invokevirtual.wp_coldUp (e := e) (s := T) (s₀ := s) (f := g) XX.here.top XX.warmed hE hdk hcf (Or.inl hcp) hck hni,
      pm_wpV (e := e) (s := T.setVm (T.vm.calledUp g.method.cls ix idx cn r0)) (f := g) (r := r0) (m := mk) (cn := cn) (kr := kr₂) (kn := ck₂) (mk := kP₂) (rmeth := rm) (meth := methM) (a := pm_f w b) (av := as.map (pm_v w)) (rest := rest) (cell := cell)
        XX.here.top ⟨dk₂, cfile, ix, nt, hdk₂, by rw [hed]; exact hcf, Or.inl hcp, dk₂, hdk₂, hres⟩ hck₂ (by rw [hec]; exact hni) hE.ready hkr₂
        (by show (T.vm.calledUp g.method.cls ix idx cn r0).method? r0 = some rm; rw [hA.method?]; exact hrm)
        (by rw [her]; show signaturePolymorphic kr rm = false; simp [signaturePolymorphic, hnr, ho.1, ho.2]) hstR hln hstk hcell (fun z h => by rw [h] at hobj; cases hobj)
        (by show selectMethod e.platform (T.vm.calledUp g.method.cls ix idx cn r0) cell.cls r0 = .method mk; rw [hA.selectMethod]; exact hsel)
        (by show (T.vm.calledUp g.method.cls ix idx cn r0).method? mk = some methM; rw [hA.method?]; exact hmethM) habM hkP₂ (by rw [hem]; exact hkPi)
        (fun q hq => q7 q (by rw [← pm_nhA hA]; exact hq))]
    exact hrest
  · exact hchk.elim
/-- super.m(..) that lands in a default method -/
theorem pm_lkSD {owner : String} {idx ci n : Nat} {x : MethodName} {μ' : pm_Mt} {r : vw_C} (hd : decode μ.2.1 pc = .ok (.invokespecial idx, 3)) (hci : ci < 50) (hr : pm_cl[ci]? = some r) (hl : pm_wd (Cond.methodLink μ.1.cls idx x)) (hsm : pm_wd (Cond.sameMethod x.cls owner x.name x.desc)) (hsp : Cond.superclass μ.1.cls x.cls ∈ lw_all)
    (hs : Cond.landsInDefault x.cls x μ'.1 ∈ flatC narrow_1) (hy : μ'.1 = ⟨owner, x.name, x.desc⟩) (hi : Cond.instanceMethod μ'.1 ∈ lw_all) (hcd : Cond.code μ'.1 μ'.2.1 μ'.2.2.1 μ'.2.2.2.1 ∈ lw_all) (hno : x.name ≠ "<init>") (hnp : pm_np μ'.1 n) : pm_Lk μ G pc 3 μ' (n + 1) (pm_rcv (pm_is ci)) := by
  intro w S0 S p l e R s m args below meth c T locs cells slots g av rest X XX hH hG hgm hgp hsz hst hlen hchk
  refine ⟨⟨_, hd⟩, ?_⟩
  unfold pm_rcv at hchk
  split at hchk
  · rename_i b as
    obtain ⟨cell, hcell, hobj, hcls⟩ := pm_recv X.1 X.2.1 hH (show (pm_hd S b).1 = ci from hchk) hci hr
    obtain ⟨kB, hkB, -⟩ := Vm.findClass_spec hcls
    obtain ⟨mk, methM, hnamed, hmethM, hstM, habM⟩ := Cond.instanceMethod_spec (pm_word X.1 X.2.1 hi args)
    obtain ⟨methM', cM, hmethM', -, -, -, -, -, -, hsigM⟩ := Cond.code_spec hnamed (pm_word X.1 X.2.1 hcd args)
    cases hmethM.symm.trans hmethM'
    obtain ⟨cn, ck, r1, hcn, hck, hni, hf, hn1⟩ := Cond.sameMethod_found (hsm.at X.1 X.2.1 args)
    have hn : s.methodNamed? ⟨owner, x.name, x.desc⟩ = some mk := by rw [← hy]; exact hnamed
    cases hn.symm.trans hn1
    obtain ⟨c2, m2, rm2, kP, q1, q3, q5, q4, hkP, hkPi, hprM, -⟩ := pm_lidU X.1 X.2.1 hs hsm hn
    cases hcn.symm.trans q1
    cases hnamed.symm.trans q3
    cases hmethM.symm.trans q5
    obtain ⟨ps, dk, kp, hps, hdk, hkp, hsuper, -, -, hnid⟩ := Cond.superclass_spec X.2.2.2.2.2.2.2.1 (pm_word X.1 X.2.1 hsp args)
    cases hcn.symm.trans hps
    have hpl : e.platform.magicAccessors = ({} : Platform).magicAccessors := by rw [XX.admits.platform]
    obtain ⟨ix, hlk, hright⟩ := Cond.methodLink_specUp X.2.2.2.2.2.2.2.1 hcn hck hni hf (hl.at X.1 X.2.1 args) e.platform hpl (by rw [XX.admits.platform])
    obtain ⟨dk₀, cfile, nt, _, _, ck₀, _, _, hd₀, hcf, hcp, -, -, -, hc₀, -, hpoly, -⟩ := hlk.here
    cases hdk.symm.trans hd₀
    cases hck.symm.trans hc₀
    obtain ⟨hrn, hrd⟩ := name_of_methodNamed hn hmethM
    have hup : s.vm.lookupUp cn x.name x.desc = some mk := ((State.methodFound?_class hcn hck hni hpoly mk).mp hf).1
    have hfound : lookupSpecial s.vm cn methM.name methM.desc = .method mk := pm_lsp hck hni (by rw [hrn, hrd]; exact hup) hmethM hstM hprM q4
    have hstk : g.stack = (as.map (pm_v w)).reverse ++ .ref (pm_f w b) :: rest := by rw [hst]; simp [pm_v]
    have hln : (as.map (pm_v w)).length = methM.sig.parameters.length := hnp.eq (by simp at hlen ⊢; exact hlen) _ hsigM
    have hnm : methM.name ≠ "<init>" := by rw [hrn]; exact hno
    subst hgm
    obtain ⟨vm', hW', st⟩ := Steps.invokeSuperColdArgs (tb := p.tables) (e := e) (s₀ := s) (U := T) (f := g) (args := as.map (pm_v w)) (rest := rest) (a := pm_f w b) (cell := cell) (m := mk) XX.here X.2.2.2.1 (by rw [X.2.2.2.2.1, hgp]; exact hd) XX.warmed hlk hright hdk hcf hcp hmethM hck
      (by simp [hnm]) hstM (by rw [hsuper]; simpa using hfound) hnid hkP habM hln hstk hcell (fun z h => by rw [h] at hobj; cases hobj) hkB
    have X₁ := XX.noted hW'
    exact ⟨vm', mk, X₁, X₁.named hnamed, fun target h => st _ (h [])⟩
  · exact hchk.elim
end DFM
section DFN
variable {μ : pm_Mt} {G : pm_M → Prop} {pc : Nat}
/-- as pm_lkU, the word of selection naming the owner -/
theorem pm_lkUS {C owner : String} {idx ci n : Nat} {x : MethodName} {μ' : pm_Mt} {r : vw_C} (hd : decode μ.2.1 pc = .ok (.invokevirtual idx, 3)) (hci : ci < 50) (hr : pm_cl[ci]? = some r) (hC : r.1 = C)
    (hl : pm_wd (Cond.methodLink μ.1.cls idx x)) (hsm : pm_wd (Cond.sameMethod x.cls owner x.name x.desc)) (hdc : pm_Dcl ⟨owner, x.name, x.desc⟩) (ho : owner ≠ "java/lang/invoke/MethodHandle" ∧ owner ≠ "java/lang/invoke/VarHandle")
    (hs : Cond.selects C ⟨owner, x.name, x.desc⟩ μ'.1 ∈ lw_all) (hi : Cond.instanceMethod μ'.1 ∈ lw_all) (hnp : pm_np x n) : pm_Lk μ G pc 3 μ' (n + 1) (pm_rcv (pm_is ci)) := by
  intro w S0 S p l e R s m args below meth c T locs cells slots g av rest X XX hH hG hgm hgp hsz hst hlen hchk
  refine ⟨⟨_, hd⟩, ?_⟩
  unfold pm_rcv at hchk
  split at hchk
  · rename_i b as
    obtain ⟨cellB, hcell, hobj, hcls⟩ := pm_recv X.1 X.2.1 hH (show (pm_hd S b).1 = ci from hchk) hci hr
    rw [hC] at hcls
    obtain ⟨r0, rm, hn, hrm, hstR, hsigR⟩ := hdc.at X.1 X.2.1
    obtain ⟨mk, methM, hnamed, hmethM, -, habM⟩ := Cond.instanceMethod_spec (pm_word X.1 X.2.1 hi args)
    obtain ⟨c2, r2, m2, q1, q2, q3, q4, kP, hkP, hkPi⟩ := Cond.selects_spec (pm_word X.1 X.2.1 hs args)
    have hf0 : s.methodFound? owner x.name x.desc = some r0 := State.methodFound?_of_named (x := ⟨owner, x.name, x.desc⟩) hn ho
    cases hcls.symm.trans q1
    cases hf0.symm.trans q2
    cases hnamed.symm.trans q3
    have hselP : selectMethod e.platform s.vm cellB.cls r0 = .method mk := by rw [Launch.admits_selectMethod XX.admits]; exact q4
    obtain ⟨vm₁, X₁, hstep₁⟩ := XX.invokevirtualUp X.2.2.2.1 X.2.2.2.2.2.2.2.1 (hl.at X.1 X.2.1 args) (hsm.at X.1 X.2.1 args) ho hn hrm hstR (a := pm_f w b) (cell := cellB) hcell
      (fun z h => by rw [h] at hobj; cases hobj) hselP hmethM habM hkP hkPi (g := g) hgm (argsL := as.map (pm_v w)) (rest := rest) (hnp.eq (by simp at hlen ⊢; exact hlen) _ hsigR) (by rw [hst]; simp [pm_v]) (by rw [X.2.2.2.2.1, hgp]; exact hd)
    exact ⟨vm₁, mk, X₁, X₁.named hnamed, hstep₁⟩
  · exact hchk.elim
/-- super.m(..), declared one class further up -/
theorem pm_lkSU2 {idx ci n : Nat} {x : MethodName} {μ' : pm_Mt} {r : vw_C} (hd : decode μ.2.1 pc = .ok (.invokespecial idx, 3)) (hci : ci < 50) (hr : pm_cl[ci]? = some r) (hl : Cond.methodLink μ.1.cls idx x ∈ lw_all) (hsm : Cond.sameMethod x.cls μ'.1.cls x.name x.desc ∈ lw_all) (hsp : Cond.superclass μ.1.cls x.cls ∈ lw_all) (hsp2 : Cond.superclass x.cls μ'.1.cls ∈ lw_all) (hy : μ'.1 = ⟨μ'.1.cls, x.name, x.desc⟩)
    (hi : Cond.instanceMethod μ'.1 ∈ lw_all) (hcd : Cond.code μ'.1 μ'.2.1 μ'.2.2.1 μ'.2.2.2.1 ∈ lw_all) (hno : x.name ≠ "<init>") (hnp : pm_np μ'.1 n) : pm_Lk μ G pc 3 μ' (n + 1) (pm_rcv (pm_is ci)) := by
  intro w S0 S p l e R s m args below meth c T locs cells slots g av rest X XX hH hG hgm hgp hsz hst hlen hchk
  refine ⟨⟨_, hd⟩, ?_⟩
  unfold pm_rcv at hchk
  split at hchk
  · rename_i b as
    obtain ⟨cellB, hcell, hobj, hcls⟩ := pm_recv X.1 X.2.1 hH (show (pm_hd S b).1 = ci from hchk) hci hr
    obtain ⟨kB, hkB, -⟩ := Vm.findClass_spec hcls
    obtain ⟨mk, methM, hnamed, hmethM, hstM, habM⟩ := Cond.instanceMethod_spec (pm_word X.1 X.2.1 hi args)
    obtain ⟨methM', cM, hmethM', -, -, -, -, -, -, hsigM⟩ := Cond.code_spec hnamed (pm_word X.1 X.2.1 hcd args)
    cases hmethM.symm.trans hmethM'
    obtain ⟨ps, dk, kp, hps, hdk, hkp, hsuper, -, -, hnid⟩ := Cond.superclass_spec X.2.2.2.2.2.2.2.1 (pm_word X.1 X.2.1 hsp args)
    obtain ⟨ps2, dk2, kp2, hps2, hdk2, hkp2, hsuper2, -, -, hnid2⟩ := Cond.superclass_spec hps (pm_word X.1 X.2.1 hsp2 args)
    have hn : s.methodNamed? ⟨μ'.1.cls, x.name, x.desc⟩ = some mk := by rw [← hy]; exact hnamed
    have hpm : ps2 = mk.cls := Option.some.inj (hps2.symm.trans (findClass_of_methodNamed hnamed))
    have hsz2 : 1 ≤ s.vm.classes.size := by
      have := (Array.getElem?_eq_some_iff.mp hdk2).1
      omega
    have hsub : s.vm.isSubclass ps mk.cls = true := by
      rw [← hpm]
      obtain ⟨q, hq⟩ : ∃ q, s.vm.classes.size = q + 1 := ⟨s.vm.classes.size - 1, by omega⟩
      simp [Vm.isSubclass, hq, Vm.isSubclassAux, hdk2, hsuper2]
    obtain ⟨vm₁, X₁, hstep₁⟩ := XX.invokespecialUp X.2.2.2.1 X.2.2.2.2.2.2.2.1 (pm_word X.1 X.2.1 hl args) (pm_word X.1 X.2.1 hsm args) hn hmethM hstM habM hno hdk hnid hps hsuper hsub (a := pm_f w b) (cell := cellB) hcell
      (fun z h => by rw [h] at hobj; cases hobj) hkB (g := g) hgm (argsL := as.map (pm_v w)) (rest := rest) (hnp.eq (by simp at hlen ⊢; exact hlen) _ hsigM) (by rw [hst]; simp [pm_v]) (by rw [X.2.2.2.2.1, hgp]; exact hd)
    exact ⟨vm₁, mk, X₁, X₁.named hnamed, fun target h => hstep₁ _ (h [])⟩
  · exact hchk.elim
end DFN
