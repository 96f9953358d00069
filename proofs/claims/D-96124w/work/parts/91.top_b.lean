/-! ===== from the law's pure walk to the machine ===== -/
set_option maxRecDepth 100000
def pm_S0 (L : Nat) (xs : Nat → Int32) : pm_M := (fun a => if a = 1000000 then (98, L) else (99, 0), fun a => if a = 1000000 then xs else fun _ => 0, fun _ _ => 0, fun _ _ => none, 0, 0)
theorem pm_hasRoom {s : State} {pl : Platform} {r r' : Room} (h1 : r'.frames ≤ r.frames) (h2 : r'.cells ≤ r.cells) (h3 : r'.slots ≤ r.slots) (h4 : r'.locals ≤ r.locals) (h : s.hasRoom pl r = true) : s.hasRoom pl r' = true := by
  simp only [State.hasRoom, Bool.and_eq_true, decide_eq_true_eq] at h ⊢
  obtain ⟨⟨⟨⟨a1, a2, a3, a4, a5, a6⟩, a7⟩, a8⟩, a9⟩ := h
  exact ⟨⟨⟨⟨by omega, by omega, by omega, by omega, by omega, a6⟩, by omega⟩, by omega⟩, a9⟩
theorem pm_same_forget {s t : State} {L : List Loc} {k n k' n' : Nat} (hL : ∀ q ∈ L, s.heap.size ≤ q.base) (hk : k ≤ k') (hn : n ≤ n') (h : s.sameButNew t L k n) : s.sameButNew t [] k' n' := by
  obtain ⟨h1, h2, h3, h4, h5, h6⟩ := h
  refine ⟨h1, h2, by omega, h4, by omega, fun a c hc => ?_⟩
  obtain ⟨c', e1, e2, e3, e4⟩ := h6 a c hc
  refine ⟨c', e1, e2, e3, fun i _ => e4 i fun hm => ?_⟩
  have h7 := hL _ hm
  have h8 := (Array.getElem?_eq_some_iff.mp hc).1
  simp only at h7
  omega
theorem pm_arrT {args : Array Value} {s : State} {ty : FieldType} (hp : ∀ C, ty ≠ .object C) (h : (Cond.arrayClass ty).before args s = true) : ∃ cA, ArrOfT s cA ty ∧ va_RA s cA ty := by
  obtain ⟨c, k, comp, h1, h2, h3⟩ := Cond.arrayClass_spec h
  refine ⟨c, fun n z => ⟨(fun k h => by cases h), k, h2, comp, h3⟩, ?_⟩
  cases ty with
  | object C => exact absurd rfl (hp C)
  | _ => exact h1
theorem pm_arrO {args : Array Value} {s : State} {C : String} (h : (Cond.arrayOver (.object C)).before args s = true) : ∃ cA, ArrOfT s cA (.object C) ∧ va_RA s cA (.object C) := by
  obtain ⟨comp, c, k, h1, h2, h3, h4, h5⟩ := Cond.arrayOver_spec h
  exact ⟨c, fun n z => ⟨(fun k h => by cases h), k, h3, comp, h4⟩, k, comp, h3, h4, h1, h5⟩
theorem pm_zq {C n d : String} {A : Nat → Prop} {s : State} {H : Heap} (h : va_Zq C n d A s H) : ∃ x : Nat, va_Z C n d .null A s H ∨ va_Z C n d (.ref x) A s H := by
  rcases h with h | ⟨t, h⟩
  · exact ⟨0, Or.inl h⟩
  · exact ⟨t, Or.inr h⟩
theorem pm_kn {s : State} {b : Nat} {C : String} {T : u_T} {N n : Nat} (hts : ∀ w ∈ lw_tbl, w.before #[Value.ref b] s = true) (hin : ∀ w ∈ u_ws C T N, w ∈ lw_all) (hi : Cond.instantiable C n ∈ lw_all) : ∃ q : ClassId × (Nat → Nat), u_Kn s C T N q.1 q.2 := by
  obtain ⟨c, i, h⟩ := u_known (args := #[Value.ref b]) hts (fun w h => lw_all_tbl (hin w h)) (hts _ (lw_all_tbl hi))
  exact ⟨(c, i), h⟩
theorem pm_known_cl {s : State} {b : Nat} (hts : ∀ w ∈ lw_tbl, w.before #[Value.ref b] s = true) : ∃ D : va_G, ∀ (k : Nat) (q : vw_C), pm_cl[k]? = some q → u_Kn s q.1 q.2.1 q.2.2 (D.1 k) (D.2 k) := by
  obtain ⟨k0, h0⟩ := pm_kn (T := TX0) (N := 36) hts in_X0 q144
  obtain ⟨k1, h1⟩ := pm_kn (T := TX1) (N := 6) hts in_X1 q154
  obtain ⟨k2, h2⟩ := pm_kn (T := TX2) (N := 3) hts in_X2 q220
  obtain ⟨k3, h3⟩ := pm_kn (T := TX3) (N := 6) hts in_X3 q245
  obtain ⟨k4, h4⟩ := pm_kn (T := TX4) (N := 3) hts in_X4 q264
  obtain ⟨k5, h5⟩ := pm_kn (T := TX5) (N := 1) hts in_X5 q279
  obtain ⟨k6, h6⟩ := pm_kn (T := TX6) (N := 63) hts in_X6 q1312
  obtain ⟨k7, h7⟩ := pm_kn (T := TX7) (N := 2) hts in_X7 q414
  obtain ⟨k8, h8⟩ := pm_kn (T := TX8) (N := 2) hts in_X8 q453
  obtain ⟨k9, h9⟩ := pm_kn (T := TX9) (N := 3) hts in_X9 q600
  obtain ⟨k10, h10⟩ := pm_kn (T := TX5) (N := 1) hts in_X5 q279
  obtain ⟨k11, h11⟩ := pm_kn (T := TX11) (N := 1) hts in_X11 q650
  obtain ⟨k12, h12⟩ := pm_kn (T := TX12) (N := 2) hts in_X12 q666
  obtain ⟨k13, h13⟩ := pm_kn (T := TX13) (N := 2) hts in_X13 q679
  obtain ⟨k14, h14⟩ := pm_kn (T := TX14) (N := 3) hts in_X14 q700
  obtain ⟨k15, h15⟩ := pm_kn (T := TX15) (N := 2) hts in_X15 q975
  obtain ⟨k16, h16⟩ := pm_kn (T := TX15) (N := 2) hts in15_X16 q880
  obtain ⟨k17, h17⟩ := pm_kn (T := TX15) (N := 2) hts in15_X17 q899
  obtain ⟨k18, h18⟩ := pm_kn (T := TX15) (N := 2) hts in15_X18 q911
  obtain ⟨k19, h19⟩ := pm_kn (T := TX15) (N := 2) hts in15_X19 q924
  obtain ⟨k20, h20⟩ := pm_kn (T := TX15) (N := 2) hts in15_X20 q937
  obtain ⟨k21, h21⟩ := pm_kn (T := TX15) (N := 2) hts in15_X21 q951
  obtain ⟨k22, h22⟩ := pm_kn (T := TX15) (N := 2) hts in15_X22 q963
  refine ⟨(fun k => ([k0, k1, k2, k3, k4, k5, k6, k7, k8, k9, k10, k11, k12, k13, k14, k15, k16, k17, k18, k19, k20, k21, k22].getD k k0).1, fun k => ([k0, k1, k2, k3, k4, k5, k6, k7, k8, k9, k10, k11, k12, k13, k14, k15, k16, k17, k18, k19, k20, k21, k22].getD k k0).2), fun k q hq => ?_⟩
  match k, hq with
  | 0, hq => cases hq; exact h0
  | 1, hq => cases hq; exact h1
  | 2, hq => cases hq; exact h2
  | 3, hq => cases hq; exact h3
  | 4, hq => cases hq; exact h4
  | 5, hq => cases hq; exact h5
  | 6, hq => cases hq; exact h6
  | 7, hq => cases hq; exact h7
  | 8, hq => cases hq; exact h8
  | 9, hq => cases hq; exact h9
  | 10, hq => cases hq; exact h10
  | 11, hq => cases hq; exact h11
  | 12, hq => cases hq; exact h12
  | 13, hq => cases hq; exact h13
  | 14, hq => cases hq; exact h14
  | 15, hq => cases hq; exact h15
  | 16, hq => cases hq; exact h16
  | 17, hq => cases hq; exact h17
  | 18, hq => cases hq; exact h18
  | 19, hq => cases hq; exact h19
  | 20, hq => cases hq; exact h20
  | 21, hq => cases hq; exact h21
  | 22, hq => cases hq; exact h22
  | k + 23, hq => simp [pm_cl] at hq
theorem pm_known_tys {s : State} {b : Nat} (hts : ∀ w ∈ lw_tbl, w.before #[Value.ref b] s = true) : ∃ tc : Nat → ClassId, ∀ (k : Nat) (q : ClassId × FieldType), ((List.range 12).map fun t => (tc t, pm_ty t))[k]? = some q → ArrOfT s q.1 q.2 ∧ va_RA s q.1 q.2 := by
  obtain ⟨k0, h0⟩ := pm_arrT (ty := .int) (fun C h => by cases h) (hts _ (lw_all_tbl q218))
  obtain ⟨k1, h1⟩ := pm_arrT (ty := .long) (fun C h => by cases h) (hts _ (lw_all_tbl q1223))
  obtain ⟨k2, h2⟩ := pm_arrT (ty := .byte) (fun C h => by cases h) (hts _ (lw_all_tbl q1221))
  obtain ⟨k3, h3⟩ := pm_arrT (ty := .short) (fun C h => by cases h) (hts _ (lw_all_tbl q1222))
  obtain ⟨k4, h4⟩ := pm_arrT (ty := .boolean) (fun C h => by cases h) (hts _ (lw_all_tbl q1224))
  obtain ⟨k5, h5⟩ := pm_arrO (hts _ q152)
  obtain ⟨k6, h6⟩ := pm_arrO (hts _ q243)
  obtain ⟨k7, h7⟩ := pm_arrO (hts _ q259)
  obtain ⟨k8, h8⟩ := pm_arrO (hts _ q239)
  obtain ⟨k9, h9⟩ := pm_arrO (hts _ q241)
  obtain ⟨k10, h10⟩ := pm_arrO (hts _ q261)
  obtain ⟨k11, h11⟩ := pm_arrO (hts _ q263)
  refine ⟨fun k => [k0, k1, k2, k3, k4, k5, k6, k7, k8, k9, k10, k11].getD k k0, fun k q hq => ?_⟩
  match k, hq with
  | 0, hq => cases hq; exact h0
  | 1, hq => cases hq; exact h1
  | 2, hq => cases hq; exact h2
  | 3, hq => cases hq; exact h3
  | 4, hq => cases hq; exact h4
  | 5, hq => cases hq; exact h5
  | 6, hq => cases hq; exact h6
  | 7, hq => cases hq; exact h7
  | 8, hq => cases hq; exact h8
  | 9, hq => cases hq; exact h9
  | 10, hq => cases hq; exact h10
  | 11, hq => cases hq; exact h11
  | k + 12, hq => simp at hq

theorem pm_narrow {args : Array Value} {s : State} (h : (Jvm.Cond.and given_1 narrow_1).before args s = true) : ∀ x ∈ flatC narrow_1, x.before args s = true := by
  rw [Cond.before_and, Bool.and_eq_true] at h
  exact flat_of_before narrow_1 h.2
theorem pm_nr1 : Cond.isRef (Term.static "java/lang/Throwable" "UNASSIGNED_STACK" "[Ljava/lang/StackTraceElement;") ∈ flatC narrow_1 := by decide +kernel
theorem pm_nr2 : Cond.isRef (Term.static "java/lang/Throwable" "SUPPRESSED_SENTINEL" "Ljava/util/List;") ∈ flatC narrow_1 := by decide +kernel
theorem pm_room1 {s : State} {pl : Platform} {L : Nat} {xs : Nat → Int32} (h : s.hasRoom pl room_1 = true) : s.hasRoom pl (pm_R 1000 (pm_S0 L xs)) = true := by
  refine pm_hasRoom (r := room_1) ?_ ?_ ?_ ?_ h
  · show 1000 ≤ 2048
    decide
  · show 900000 - 0 ≤ 938744
    decide
  · show 6000000 - 0 ≤ 6279871
    decide
  · show 64 * 1000 ≤ 84000
    decide
theorem whole_of {p : Program} {e : Env} {s : State} {m : MethodId} {below : List Frame} {meth : Method} {c : Code} (l : Launch) {b L : Nat} {xs : Nat → Int32} (hL : L ≤ 384) (C0 : lw_At p s m meth c b L xs)
    (hlaw : ∀ (L : Nat) (xs : Nat → Int32), L ≤ 384 → pm_V mL_law pm_T 1000 (pm_S0 L xs) (fun o _ => o = .returned (some (.int 1))) 0 [some (.ref 1000000)] [] (pm_S0 L xs)) :
    W p l e room_1 s m #[Value.ref b] below meth c s.heap [] 0 0 (lw_Z below #[Value.ref b] s) (entryFrame m ([Value.ref b] : List Value).toArray 4) := by
  obtain ⟨hx, hb, hr, hml, hown, hts, hX, hbl, hlocks, hgv, hnm, hexc⟩ := C0
  have hnr := pm_narrow hgv
  obtain ⟨D, hD⟩ := pm_known_cl hts
  obtain ⟨tc, htc⟩ := pm_known_tys hts
  have hz1 : va_Zq "java/lang/Throwable" "UNASSIGNED_STACK" "[Ljava/lang/StackTraceElement;" (fun q => s.heap.size ≤ q) s s.heap := va_Zqof (hts _ q180) (hts _ (lw_all_tbl q108)) (hnr _ pm_nr1) (fun a h => Nat.not_le.mpr h)
  have hz2 : va_Zq "java/lang/Throwable" "SUPPRESSED_SENTINEL" "Ljava/util/List;" (fun q => s.heap.size ≤ q) s s.heap := va_Zqof (hts _ q182) (hts _ (lw_all_tbl q108)) (hnr _ pm_nr2) (fun a h => Nat.not_le.mpr h)
  obtain ⟨x1, hx1⟩ := pm_zq hz1
  obtain ⟨x2, hx2⟩ := pm_zq hz2
  have hlv := hlaw L xs hL (s, (fun k => if k = 0 then b else if k = 1 then x1 else x2), D, tc, L, xs) p l e s m #[Value.ref b] below meth c
    ⟨⟨hts, hnr, ⟨hD, htc⟩, hX, hbl, hx1, hx2⟩, ⟨State.WarmedH.refl s, Nat.le_refl _, fun _ _ => rfl⟩, rfl, hx, hb, hml, hr, hown, hlocks, hnm, by rw [hexc]; rfl⟩
    s.heap [] _ ⟨fun k q hq => by simp [pm_ws, pm_n, pm_S0] at hq, rfl, ⟨Nat.zero_le _, Nat.zero_le _⟩, fun a _ => by by_cases h : a = 1000000 <;> simp [pm_hd, pm_S0, h], by simp [pm_hd, pm_S0], by simp [pm_I, pm_S0]⟩ trivial (pm_le.rf _) va_S.rf
    (by
      have hent := lv_entry [Value.ref b] (n := 4) (Nat.le_of_ble_eq_true rfl)
      exact ⟨hent.1, hent.2.1, fun i v hi => by
        match i, hi with
        | 0, hi => cases hi; exact hent.2.2 (0, .ref b) List.mem_cons_self
        | i + 1, hi => cases i <;> cases hi⟩)
  rw [lg_entry_eq]
  intro T hT XX
  obtain ⟨t, a1, o, a2, a3, o', S', rfl, hq, -, hHR, -, -, hW, LL, hsb, hLL⟩ := hlv T hT { XX with room := pm_room1 XX.room }
  have hS1 : pm_n S' - pm_n (pm_S0 L xs) ≤ 938744 ∧ pm_sl S' - pm_sl (pm_S0 L xs) ≤ 6279871 := by
    have h1 := hHR.2.2.1.1
    have h2 := hHR.2.2.1.2
    omega
  rw [hq] at a3
  refine ⟨t, a1, .returned (some (.int 1)), a2, a3, rfl, ⟨_, rfl⟩, hW, pm_same_forget (fun q hq => hLL q hq) hS1.1 hS1.2 hsb⟩
