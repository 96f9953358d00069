/-! ===== pm_V: a walk over the pure memory; pm_C: a method's contract over it ===== -/
set_option maxRecDepth 100000
/-- name, code, locals, answer, handlers -/
abbrev pm_Mt : Type := MethodName × ByteArray × Nat × Option FieldType × List (Nat × Nat × Nat × Nat)
def pm_cw (μ : pm_Mt) : Cond := if μ.2.2.2.2 = [] then .code μ.1 μ.2.1 μ.2.2.1 μ.2.2.2.1 else .codeWith μ.1 μ.2.1 μ.2.2.1 μ.2.2.2.1 μ.2.2.2.2
def pm_WOK (w : pm_W) : Prop :=
  (∀ x ∈ lw_tbl, x.before #[Value.ref (pm_x w 0)] w.1 = true) ∧ (∀ x ∈ flatC narrow_1, x.before #[Value.ref (pm_x w 0)] w.1 = true) ∧
  va_K (pm_D w) pm_cl (pm_tys w) w.1 ∧ va_X (pm_x w 0) w.2.2.2.2.1 w.2.2.2.2.2 w.1 w.1.heap ∧ pm_x w 0 < pm_b w ∧
  (va_Z "java/lang/Throwable" "UNASSIGNED_STACK" "[Ljava/lang/StackTraceElement;" .null (pm_A w) w.1 w.1.heap ∨ va_Z "java/lang/Throwable" "UNASSIGNED_STACK" "[Ljava/lang/StackTraceElement;" (.ref (pm_x w 1)) (pm_A w) w.1 w.1.heap) ∧
  (va_Z "java/lang/Throwable" "SUPPRESSED_SENTINEL" "Ljava/util/List;" .null (pm_A w) w.1 w.1.heap ∨ va_Z "java/lang/Throwable" "SUPPRESSED_SENTINEL" "Ljava/util/List;" (.ref (pm_x w 2)) (pm_A w) w.1 w.1.heap)
/-- the state U is of the run that began at w's start -/
def pm_KX (w : pm_W) (U : State) : Prop := w.1.WarmedH U.vm ∧ pm_b w ≤ U.heap.size ∧ ∀ q : Nat, q < pm_b w → U.heap[q]? = w.1.heap[q]?
def pm_MOK (μ : pm_Mt) : Prop := plainName μ.1.cls = true ∧ pm_cw μ ∈ lw_all
def pm_R (d : Nat) (S : pm_M) : Room := { frames := d, cells := 900000 - pm_n S, slots := 6000000 - pm_sl S, locals := 64 * d }
def pm_le (S0 S : pm_M) : Prop := pm_n S0 ≤ pm_n S ∧ pm_sl S0 ≤ pm_sl S
theorem pm_le.rf (S : pm_M) : pm_le S S := ⟨Nat.le_refl _, Nat.le_refl _⟩
theorem pm_le.tr {S T U : pm_M} (h : pm_le S T) (h2 : pm_le T U) : pm_le S U := ⟨Nat.le_trans h.1 h2.1, Nat.le_trans h.2 h2.2⟩
def pm_E (w : pm_W) (G : pm_M → Prop) (S0 : pm_M) (Q : Outcome → pm_M → Prop) (s : State) (o : Outcome) (t : State) : Prop :=
  ∃ o' S', o = pm_o w o' ∧ Q o' S' ∧ G S' ∧ pm_HR w S' t.heap ∧ pm_le S0 S' ∧ va_F (pm_A w) s t ∧ s.WarmedH t.vm ∧
    ∃ L, s.sameButNew ({ t with vm := s.vm } : State) L (pm_n S' - pm_n S0) (pm_sl S' - pm_sl S0) ∧ ∀ q ∈ L, pm_A w q.base
def pm_Z (w : pm_W) (G : pm_M → Prop) (S0 : pm_M) (Q : Outcome → pm_M → Prop) (below : List Frame) (s : State) : State → Prop := fun t =>
  ∃ o, t.status = .running ∧ Ended t below o ∧ pm_E w G S0 Q s o t
/-- what a walk of the method μ knows of the machine -/
def pm_Cx (w : pm_W) (μ : pm_Mt) (S0 : pm_M) (p : Program) (s : State) (m : MethodId) (meth : Method) (c : Code) : Prop :=
  pm_WOK w ∧ pm_KX w s ∧ s.heap.size = pm_b w + pm_n S0 ∧ p.tables.exec = Jvm.exec ∧ c.code = μ.2.1 ∧ c.maxLocals = μ.2.2.1 ∧ meth.sig.returnType = μ.2.2.2.1 ∧
  s.vm.findClass μ.1.cls = some m.cls ∧ meth.locks = false ∧ meth.name = μ.1.name ∧ c.exceptionTable.toList.map (fun h => (h.startPc, h.endPc, h.handlerPc, h.catchType)) = μ.2.2.2.2
def pm_g : List (Option Value) → Nat → Option Value
  | [], _ => none
  | x :: _, 0 => x
  | _ :: l, n + 1 => pm_g l n
def pm_s : List (Option Value) → Nat → Option Value → List (Option Value)
  | [], 0, v => [v]
  | [], n + 1, v => none :: pm_s [] n v
  | _ :: l, 0, v => v :: l
  | x :: l, n + 1, v => x :: pm_s l n v
def pm_LS (w : pm_W) (nL : Nat) (ls : List (Option Value)) (rls : Array Slot) : Prop := rls.size = nL ∧ lv_wf rls ∧ ∀ i v, pm_g ls i = some v → rls[i]? = some (.val (pm_v w v))
def pm_V (μ : pm_Mt) (G : pm_M → Prop) (d : Nat) (S0 : pm_M) (Q : Outcome → pm_M → Prop) (pc : Nat) (ls : List (Option Value)) (st : List Value) (S : pm_M) : Prop :=
  ∀ (w : pm_W) (p : Program) (l : Launch) (e : Env) (s : State) (m : MethodId) (args : Array Value) (below : List Frame) (meth : Method) (c : Code),
    pm_Cx w μ S0 p s m meth c → ∀ (H : Heap) (locs : List Loc) (rls : Array Slot), pm_HR w S H → G S → pm_le S0 S → va_S (pm_A w) s.heap H locs → pm_LS w μ.2.2.1 ls rls →
      W p l e (pm_R d S0) s m args below meth c H locs (pm_n S - pm_n S0) (pm_sl S - pm_sl S0) (pm_Z w G S0 Q below s) (F0 m pc rls (st.map (pm_v w)))
/-- the library's free form, but of a method whose class need not be initialised (a default of an interface) -/
def pm_MF (l : Launch) (x : MethodName) (R : Room) (q : Cond) (P : Array Value → State → Prop) (Q : Array Value → State → Outcome → State → Prop) : Prop :=
  ∀ (p : Program) (e : Env), l.admits e → FairCas e.choices → FairClock e.choices → ∀ (s : State) (m : MethodId) (args : Array Value) (below : List Frame),
    s.frames = .invoking m args :: below → (s.status = .running ∧ s.curStatus? = some .runnable ∧ s.alone = true ∧ s.methodNamed? x = some m ∧ s.hears m below = true ∧ s.hasRoom e.platform R = true ∧ q.before args s = true) → P args s →
    ∃ n o, (∀ k, k < n → Within (stepsAlone p.tables e k s) below) ∧ (stepsAlone p.tables e n s).status = .running ∧ Ended (stepsAlone p.tables e n s) below o ∧ Q args s o (stepsAlone p.tables e n s)
def pm_C (G : pm_M → Prop) (d : Nat) (μ : pm_Mt) (av : List Value) (S : pm_M) (Q : Outcome → pm_M → Prop) : Prop :=
  ∀ (w : pm_W) (l : Launch), pm_WOK w → G S → pm_MF l μ.1 (pm_R d S) (pm_cw μ) (fun a U => a = (av.map (pm_v w)).toArray ∧ pm_HR w S U.heap ∧ pm_KX w U) (fun _ st o t => pm_E w G S Q st o t)
/-- the words of the tables, at any state of the run -/
theorem pm_word {w : pm_W} {U : State} (hw : pm_WOK w) (hK : pm_KX w U) {x : Cond} (hx : x ∈ lw_all) (a : Array Value) : x.before a U = true := by
  have h1 := List.mem_filter.mp hx
  exact word_at hK.1 (good_of_word h1.2) (hw.1 x h1.1)
theorem pm_words {w : pm_W} {U : State} (hw : pm_WOK w) (hK : pm_KX w U) (a : Array Value) : ∀ x ∈ lw_all, x.before a U = true := fun _ hx => pm_word hw hK hx a
theorem pm_KX.K {w : pm_W} {U : State} (hw : pm_WOK w) (hK : pm_KX w U) : va_K (pm_D w) pm_cl (pm_tys w) U := va_K.moved hK.1.alike hw.2.2.1
theorem pm_KX.next {w : pm_W} {s U : State} (hK : pm_KX w s) (hW : s.WarmedH U.vm) (hs : va_F (pm_A w) s U) : pm_KX w U :=
  ⟨State.WarmedH.trans hK.1 hW, Nat.le_trans hK.2.1 hs.1, fun q hq => (hs.2 q (Nat.lt_of_lt_of_le hq hK.2.1) (fun h => absurd hq (Nat.not_lt.mpr h))).trans (hK.2.2 q hq)⟩
theorem pm_KX.at {w : pm_W} {s T : State} {H : Heap} {locs : List Loc} (hK : pm_KX w s) (hW : s.WarmedH T.vm) (hT : T.heap = H) (hS : va_S (pm_A w) s.heap H locs) : pm_KX w T := hK.next hW (hS.F hT)
theorem pm_cat (w : pm_W) (v : Value) : (pm_v w v).category = v.category := by cases v <;> rfl
theorem pm_cats (w : pm_W) (st : List Value) : ((st.map (pm_v w)).map fun v => v.category) = st.map fun v => v.category := by
  rw [List.map_map]
  congr 1
  funext v
  exact pm_cat w v
def pm_en : List Value → List (Option Value)
  | [] => []
  | v :: vs => if v.category = 2 then some v :: none :: pm_en vs else some v :: pm_en vs
theorem pm_en_len (w : pm_W) (av : List Value) : (lg_sl (av.map (pm_v w))).length = (pm_en av).length := by
  induction av with
  | nil => rfl
  | cons v vs ih =>
    simp only [lg_sl, List.map_cons, List.flatMap_cons, List.length_append, pm_cat, pm_en] at ih ⊢
    by_cases h : v.category = 2
    · simp only [if_pos h, List.length_cons, List.length_nil]
      omega
    · simp only [if_neg h, List.length_cons, List.length_nil]
      omega
theorem pm_en_at (w : pm_W) (av : List Value) : ∀ (j i : Nat) (v : Value), pm_g (pm_en av) i = some v → (j + i, pm_v w v) ∈ lv_args j (av.map (pm_v w)) := by
  induction av with
  | nil => intro j i v h; cases i <;> cases h
  | cons x vs ih =>
    intro j i v h
    simp only [List.map_cons, lv_args, pm_cat]
    simp only [pm_en] at h
    by_cases hc : x.category = 2
    · rw [if_pos hc] at h ⊢
      match i, h with
      | 0, h => cases h; exact List.mem_cons_self
      | 1, h => cases h
      | i + 2, h =>
        have := ih (j + 2) i v h
        rw [show j + (i + 2) = j + 2 + i by omega]
        exact List.mem_cons_of_mem _ this
    · rw [if_neg hc] at h ⊢
      match i, h with
      | 0, h => cases h; exact List.mem_cons_self
      | i + 1, h =>
        have := ih (j + 1) i v h
        rw [show j + (i + 1) = j + 1 + i by omega]
        exact List.mem_cons_of_mem _ this
theorem pm_exc {w : pm_W} {s : State} {m : MethodId} {meth : Method} {c : Code} {μ : pm_Mt} (hn : s.methodNamed? μ.1 = some m) (hm : s.vm.method? m = some meth) (hc : meth.code = some c) {a : Array Value} (h : (pm_cw μ).before a s = true) :
    c.exceptionTable.toList.map (fun h => (h.startPc, h.endPc, h.handlerPc, h.catchType)) = μ.2.2.2.2 ∧ c.code = μ.2.1 ∧ c.maxLocals = μ.2.2.1 ∧ meth.sig.returnType = μ.2.2.2.1 ∧ meth.locks = false ∧ parseMethodDescriptor μ.1.desc = some meth.sig := by
  unfold pm_cw at h
  by_cases hh : μ.2.2.2.2 = []
  · rw [if_pos hh] at h
    obtain ⟨meth', c', h1, h2, h3, h4, h5, h6, h7, h8⟩ := Cond.code_spec hn h
    cases hm.symm.trans h1
    cases hc.symm.trans h2
    refine ⟨?_, h3, h4, h5, h6, h8⟩
    rw [hh]
    have h9 : c.exceptionTable = #[] := by simpa using h7
    rw [h9]
    rfl
  · rw [if_neg hh] at h
    obtain ⟨m', meth', c', h0, h1, h2, h3, h4, h5, h6, h7, h8⟩ := Cond.codeWith_spec h
    cases hn.symm.trans h0
    cases hm.symm.trans h1
    cases hc.symm.trans h2
    exact ⟨h5, h3, h4, h6, h7, h8⟩
theorem pm_his {s : State} {m : MethodId} {μ : pm_Mt} (hn : s.methodNamed? μ.1 = some m) {a : Array Value} (h : (pm_cw μ).before a s = true) :
    ∃ meth c, s.vm.method? m = some meth ∧ meth.code = some c ∧ c.code = μ.2.1 ∧ c.maxLocals = μ.2.2.1 ∧ meth.sig.returnType = μ.2.2.2.1 ∧ meth.locks = false := by
  unfold pm_cw at h
  by_cases hh : μ.2.2.2.2 = []
  · rw [if_pos hh] at h
    obtain ⟨meth', c', h1, h2, h3, h4, h5, h6, -, -⟩ := Cond.code_spec hn h
    exact ⟨_, _, h1, h2, h3, h4, h5, h6⟩
  · rw [if_neg hh] at h
    obtain ⟨m', meth', c', h0, h1, h2, h3, h4, -, h6, h7, -⟩ := Cond.codeWith_spec h
    cases hn.symm.trans h0
    exact ⟨_, _, h1, h2, h3, h4, h6, h7⟩
theorem pm_MF.call {l : Launch} {x : MethodName} {R : Room} {q : Cond} {P : Array Value → State → Prop} {Q : Array Value → State → Outcome → State → Prop} {e : Env}
    (hM : pm_MF l x R q P Q) (p : Program) (ha : l.admits e) (hc : FairCas e.choices) (hk : FairClock e.choices)
    {s : State} {m : MethodId} {args : Array Value} {acts : List Action} {mid below : List Frame} (hlt : s.cur < s.threads.size)
    (hfr : s.frames = mid ++ below) (happ : (s.pushFrame (.invoking m args)).status = .running ∧ (s.pushFrame (.invoking m args)).curStatus? = some .runnable ∧ (s.pushFrame (.invoking m args)).alone = true ∧ (s.pushFrame (.invoking m args)).methodNamed? x = some m ∧ (s.pushFrame (.invoking m args)).hears m s.frames = true ∧ (s.pushFrame (.invoking m args)).hasRoom e.platform R = true ∧ q.before args (s.pushFrame (.invoking m args)) = true)
    (hP : P args (s.pushFrame (.invoking m args))) :
    ∃ o s₂, Steps p.tables e below (doInvoke e s acts m args).1 s₂ ∧ s₂.status = .running ∧ Ended s₂ s.frames o ∧ Q args (s.pushFrame (.invoking m args)) o s₂ := by
  obtain ⟨t, ht⟩ : ∃ t, s.threads[s.cur]? = some t := ⟨s.threads[s.cur], Array.getElem?_eq_getElem hlt⟩
  have hf' : (s.pushFrame (.invoking m args)).frames = .invoking m args :: s.frames := State.frames_setFrames _ hlt
  have hgo : (s.pushFrame (.invoking m args)).goesOn := ⟨happ.1, happ.2.1, happ.2.2.1⟩
  obtain ⟨n, o, hw, hr, he, hp⟩ := hM p e ha hc hk (s.pushFrame (.invoking m args)) m args s.frames hf' happ hP
  have hstep : (stepThread p.tables e (s.pushFrame (.invoking m args))).1 = (doInvoke e s acts m args).1 := by
    rw [stepThread_invoking hf', doInvoke_state e s acts, State.pushFrame, State.setFrames_setFrames, State.setFrames_self ht]
  cases n with
  | zero => exact absurd ⟨[.invoking m args], hf', by simp, by simp⟩ he.not_within
  | succ k =>
    rw [stepsAlone_succ _ hgo, hstep] at hr he hp
    refine ⟨o, _, ⟨k, rfl, fun j hj => ?_⟩, hr, he, hp⟩
    have := hw (j + 1) (by omega)
    rw [stepsAlone_succ _ hgo, hstep, hfr] at this
    exact this.weaken
/-- a contract out of a walk of the body -/
theorem pm_C.of {G : pm_M → Prop} {d : Nat} {μ : pm_Mt} {av : List Value} {S : pm_M} {Q : Outcome → pm_M → Prop} (hM : pm_MOK μ) (hl : (pm_en av).length ≤ μ.2.2.1) (h : pm_V μ G d S Q 0 (pm_en av) [] S) : pm_C G d μ av S Q := by
  intro w l hw hG p e ha hc hk s m args below hf happ hP
  obtain ⟨hrun, hable, halone, hname, hhears, hroom, hpre⟩ := happ
  obtain ⟨meth, c, hmeth, hcode, hbytes, hlocals, hret, hlocks⟩ := pm_his hname hpre
  obtain ⟨rfl, hH, hK⟩ := hP
  have hcur := State.cur_lt_of_frames hf
  have hf1 : (s.setFrames (.java (entryFrame m (av.map (pm_v w)).toArray μ.2.2.1) :: below)).frames = .java (entryFrame m (av.map (pm_v w)).toArray μ.2.2.1) :: below :=
    State.frames_setFrames _ hcur
  have ht1 := State.topJava?_of_frames hf1
  have hplain : (s.setFrames (.java (entryFrame m (av.map (pm_v w)).toArray μ.2.2.1) :: below)).plainMethod m := by
    refine State.plainMethod.of_name ?_
    intro k hk
    obtain ⟨k', hk', hn⟩ := className_of_methodNamed hname
    cases (show s.vm.classes[m.cls]? = some k from hk).symm.trans hk'
    rw [hn]; exact hM.1
  have hAt : At (s.setFrames (.java (entryFrame m (av.map (pm_v w)).toArray μ.2.2.1) :: below)) m c below :=
    ⟨by rw [ht1]; rfl, ⟨[], by rw [hf1]; rfl⟩, hrun, by simpa using hable, by simpa using halone,
      by rw [State.code?_eq]; simp [State.setFrames, hmeth, hcode], hplain⟩
  have hstep : (stepThread p.tables e s).1 = (s.setFrames (.java (entryFrame m (av.map (pm_v w)).toArray μ.2.2.1) :: below)).setTop (entryFrame m (av.map (pm_v w)).toArray μ.2.2.1) := by
    have hfull : e.platform.stackFull (s.setFrames below).me (s.setFrames below).frames c.maxLocals = false := by
      obtain ⟨-, h1, -, h2⟩ := State.hasRoom_stack hroom
      rw [hf, List.length_cons] at h1
      rw [State.localsInUse_invoking hf hmeth hcode] at h2
      have hw := stackUse_le_stackWeight below
      rw [State.frames_setFrames _ hcur]
      exact Platform.stackFull_eq_false (by rw [State.stackLimits_setFrames]; omega) (by rw [State.stackLimits_setFrames]; omega)
    rw [stepThread_invoking hf, (doInvoke_java (s := s.setFrames below) (e := e) (meth := meth) (code := c) hmeth hcode hlocks hfull).1, State.setTop_self ht1]
    simp only [State.pushFrame, State.frames_setFrames _ hcur, State.setFrames_setFrames, hlocals, entryFrame]
  have hX : Stand p l e (pm_R d S) s m (av.map (pm_v w)).toArray below meth c (s.setFrames (.java (entryFrame m (av.map (pm_v w)).toArray μ.2.2.1) :: below)) [] 0 0 := by
    obtain ⟨t, ht, -⟩ := State.frames_cons hf
    refine ⟨ha, hc, hk, hf, hroom, hhears, hmeth, hcode, hAt, by rw [hf1]; rfl, State.WarmedH.refl s, by rw [State.stackLimits_setFrames], by rw [State.stackBytes_setFrames], ?_⟩
    exact (State.sameButNew.refl s ht).setFrames (.java (entryFrame m (av.map (pm_v w)).toArray μ.2.2.1) :: below) hcur
  obtain ⟨hexc, h2, h3, h4, h5, h6⟩ := pm_exc (w := w) hname hmeth hX.code hpre
  have hent := lv_entry (av.map (pm_v w)) (n := μ.2.2.1) (by rw [pm_en_len]; exact hl)
  have hWk := h w p l e s m (av.map (pm_v w)).toArray below meth c ⟨hw, hK, hH.2.1, by cases p <;> rfl, hbytes, hlocals, hret, findClass_of_methodNamed hname, hlocks, (name_of_methodNamed hname hmeth).1, hexc⟩ s.heap [] _ hH hG (pm_le.rf S) va_S.rf
    ⟨hent.1, hent.2.1, fun i v hi => by
      have := pm_en_at w av 0 i v hi
      rw [Nat.zero_add] at this
      exact hent.2.2 _ this⟩
  rw [Nat.sub_self, Nat.sub_self] at hWk
  obtain ⟨t, a1, o, b1, b2, b3⟩ := hWk (s.setFrames (.java (entryFrame m (av.map (pm_v w)).toArray μ.2.2.1) :: below)) rfl hX
  simp only [List.map_nil] at a1
  rw [← lg_entry_eq] at a1
  obtain ⟨n, hn, hw'⟩ := Steps.head (tb := p.tables) (e := e) ⟨hrun, hable, halone⟩ ⟨[.invoking m (av.map (pm_v w)).toArray], hf, by simp, by simp⟩ (hstep ▸ a1)
  exact ⟨n, o, hw', hn ▸ b1, hn ▸ b2, hn ▸ b3⟩
theorem pm_C.mono {G : pm_M → Prop} {d : Nat} {μ : pm_Mt} {av : List Value} {S : pm_M} {Q Q' : Outcome → pm_M → Prop} (h : pm_C G d μ av S Q) (hq : ∀ o S', G S' → Q o S' → Q' o S') : pm_C G d μ av S Q' := by
  intro w l hw hG p e ha hc hk s m args below hf happ hP
  obtain ⟨n, o, h1, h2, h3, h4⟩ := h w l hw hG p e ha hc hk s m args below hf happ hP
  obtain ⟨o', S', e1, e2, e3, e4⟩ := h4
  exact ⟨n, o, h1, h2, h3, o', S', e1, hq o' S' e3 e2, e3, e4⟩
/-- behind a call -/
theorem pm_C.back {G : pm_M → Prop} {d' : Nat} {μ : pm_Mt} {av : List Value} {S : pm_M} {Q : Outcome → pm_M → Prop} (hC : pm_C G d' μ av S Q) (hM : pm_MOK μ) {w : pm_W} (hw : pm_WOK w) (hG : G S)
    {p : Program} {l : Launch} {e : Env} {R : Room} {s : State} {m : MethodId} {args : Array Value} {below : List Frame} {meth : Method} {c : Code} {U : State} {Ls : List Loc} {c0 s0 : Nat}
    (X : Stand p l e R s m args below meth c U Ls c0 s0) (hKU : pm_KX w U) (hHR : pm_HR w S U.heap) (hframes : d' + 1 ≤ R.frames) (hlocals : 24 + (μ.2.2.1 + 11) + 64 * d' ≤ R.locals)
    (hcells : c0 + (900000 - pm_n S) ≤ R.cells) (hslots : s0 + (6000000 - pm_sl S) ≤ R.slots) {g : JFrame} {ig : Instr} {len : Nat} (hg : g.method = m) (hsize : g.locals.size = c.maxLocals) (hdg : decode c.code g.pc = .ok (ig, len))
    (hW : 2 * g.monitorRoom + (g.stack.map fun v => v.category).sum ≤ 24) {mk : MethodId} (hn : U.methodNamed? μ.1 = some mk) :
    ∃ (o : Outcome) (S' : pm_M) (U' : State) (L : List Loc), Q o S' ∧ G S' ∧ pm_HR w S' U'.heap ∧ pm_le S S' ∧ U.heap.size ≤ U'.heap.size ∧ (∀ q : Nat, q < U.heap.size → ¬ pm_A w q → U'.heap[q]? = U.heap[q]?) ∧ (∀ q ∈ L, pm_A w q.base) ∧
      Stand p l e R s m args below meth c U' (Ls ++ L) (c0 + (pm_n S' - pm_n S)) (s0 + (pm_sl S' - pm_sl S)) ∧
      (∀ v, o = .returned v → Steps p.tables e below (doInvoke e (U.setTop g) [] mk (av.map (pm_v w)).toArray).1 (U'.setTop { g with pc := g.pc + len, stack := (v.map (pm_v w)).toList ++ g.stack })) ∧
      (∀ a, o = .threw a → Steps p.tables e below (doInvoke e (U.setTop g) [] mk (av.map (pm_v w)).toArray).1 ((U'.setTop g).pushFrame (.throwing (pm_f w a)))) := by
  have hcw := pm_word hw hKU hM.2 (av.map (pm_v w)).toArray
  obtain ⟨methY, cY, hmY, hcY, -, hlY, -, -⟩ := pm_his hn hcw
  have h : At U g.method c below := by rw [hg]; exact X.here
  have hcode : (U.calling g mk (av.map (pm_v w)).toArray).code? g.method = some c := by
    have := h.code
    rw [State.code?_eq] at this ⊢
    simpa [State.calling, State.pushFrame, State.setFrames] using this
  have happ : (U.calling g mk (av.map (pm_v w)).toArray).status = .running ∧ (U.calling g mk (av.map (pm_v w)).toArray).curStatus? = some .runnable ∧ (U.calling g mk (av.map (pm_v w)).toArray).alone = true ∧ (U.calling g mk (av.map (pm_v w)).toArray).methodNamed? μ.1 = some mk ∧ (U.calling g mk (av.map (pm_v w)).toArray).hears mk (.java g :: U.frames.tail) = true ∧ (U.calling g mk (av.map (pm_v w)).toArray).hasRoom e.platform (pm_R d' S) = true ∧ (pm_cw μ).before (av.map (pm_v w)).toArray (U.calling g mk (av.map (pm_v w)).toArray) = true := by
    refine ⟨h.running, ?_, ?_, hn, ?_, X.room_calling (g := g) (R' := pm_R d' S) hsize hmY hcY hframes (by rw [hlY]; show _ + _ + 64 * d' ≤ _; omega) hcells hslots, ?_⟩
    · simpa [State.calling] using h.runnable
    · simpa [State.calling] using h.alone
    · simp [State.hears, hcode, hdg, Except.toOption]
    · rw [State.calling_eq h.top, Cond.before_setFrames]; exact hcw
  obtain ⟨mid, hmid⟩ := h.above
  have hfr : (U.setTop g).frames = (.java g :: mid) ++ below := by rw [State.frames_setTop' g h.top, hmid]; rfl
  have hft : (U.setTop g).frames = .java g :: U.frames.tail := State.frames_setTop' g h.top
  obtain ⟨o, s₂, hsteps, -, hend, hq⟩ := pm_MF.call (hC w l hw hG) p X.admits X.cas X.clock (acts := []) (s := U.setTop g) (State.cur_lt_of_frames hft) hfr (by rw [hft]; exact happ) ⟨rfl, hHR, hKU⟩
  obtain ⟨o', S', rfl, e1, e2, e3, e4, e5, hW₂, L, hsb, hL⟩ := hq
  obtain ⟨ee2, q2, q3, q4, q5, q6⟩ := hsb
  rw [State.frames_setTop' g h.top] at hend
  have hW' : U.WarmedH s₂.vm := hW₂
  obtain ⟨g₀, hg0⟩ := Option.isSome_iff_exists.mp h.top
  obtain ⟨r, hr⟩ := State.topJava?_eq_some.mp hg0
  have e3' : s₂ = ({ (U.calling g mk (av.map (pm_v w)).toArray).setFrames s₂.frames with heap := s₂.heap, slotsUsed := s₂.slotsUsed } : State).setVm s₂.vm := by
    have : s₂ = ({ s₂ with vm := (U.calling g mk (av.map (pm_v w)).toArray).vm } : State).setVm s₂.vm := rfl
    have q : ({ s₂ with vm := (U.calling g mk (av.map (pm_v w)).toArray).vm } : State) = _ := ee2
    rw [q] at this
    exact this
  have hsame : U.sameButNew ({ U with heap := s₂.heap, slotsUsed := s₂.slotsUsed } : State) L (pm_n S' - pm_n S) (pm_sl S' - pm_sl S) := by
    refine ⟨?_, q2, q3, q4, q5, q6⟩
    obtain ⟨t, ht, -⟩ := State.frames_cons hr
    show ({ U with heap := s₂.heap, slotsUsed := s₂.slotsUsed } : State) = { U.setFrames U.frames with heap := s₂.heap, slotsUsed := s₂.slotsUsed }
    rw [State.setFrames_self ht]
  have hr' : (({ U with heap := s₂.heap, slotsUsed := s₂.slotsUsed } : State).setVm s₂.vm).frames = .java g₀ :: r := hr
  refine ⟨o', S', ({ U with heap := s₂.heap, slotsUsed := s₂.slotsUsed } : State).setVm s₂.vm, L, e1, e2, e3, e4, e5.1, e5.2, hL,
    ⟨X.admits, X.cas, X.clock, X.frames, X.room, X.hears, X.method, X.code, (X.here.setHeapUsed s₂.heap s₂.slotsUsed).setVm hW'.alike, X.tail, State.WarmedH.trans X.warmed hW', X.limits, X.bytes, X.same.trans (hsame.setVm s.vm)⟩, ?_, ?_⟩
  · intro v hv
    subst hv
    obtain ⟨c₂, i₂, len₂, hc₂, hd₂, hf₂⟩ := hend
    have hcc : c₂ = c := by
      have h1 : s₂.code? g.method = U.code? g.method := by
        rw [State.code?_eq, State.code?_eq, hW'.alike.method?]
      exact Option.some.inj (hc₂.symm.trans (h1.trans h.code))
    subst hcc
    have hlen : len₂ = len := by rw [hdg] at hd₂; cases hd₂; rfl
    subst hlen
    have hs₂ : s₂ = (({ U with heap := s₂.heap, slotsUsed := s₂.slotsUsed } : State).setVm s₂.vm).setTop { g with pc := g.pc + len₂, stack := (v.map (pm_v w)).toList ++ g.stack } := by
      refine e3'.trans ?_
      rw [hf₂, State.calling_eq h.top, State.setFrames_setFrames, State.setTop_of_frames _ hr', hr]
      rfl
    rw [← hs₂]
    exact hsteps
  · intro a ha
    subst ha
    have hf₂ : s₂.frames = .throwing (pm_f w a) :: .java g :: U.frames.tail := hend
    have hs₂ : s₂ = ((({ U with heap := s₂.heap, slotsUsed := s₂.slotsUsed } : State).setVm s₂.vm).setTop g).pushFrame (.throwing (pm_f w a)) := by
      refine e3'.trans ?_
      rw [hf₂, State.calling_eq h.top, State.setFrames_setFrames, State.pushFrame, State.frames_setTop _ hr', State.setTop_of_frames _ hr', State.setFrames_setFrames, hr]
      rfl
    rw [← hs₂]
    exact hsteps
