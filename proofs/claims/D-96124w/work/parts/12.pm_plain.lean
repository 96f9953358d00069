/-! ===== pi_: what an instruction asks, and goes on with; ps_: that it is so ===== -/
set_option maxRecDepth 100000
abbrev pm_K : Type := List (Option Value) → List Value → pm_M → Prop
def pm_S (μ : pm_Mt) (G : pm_M → Prop) (d : Nat) (S0 : pm_M) (Q : Outcome → pm_M → Prop) (pc : Nat) (c : pm_K) : Prop := ∀ ls st S, c ls st S → pm_V μ G d S0 Q pc ls st S
def pm_ok : List (Option Value) → Nat → Prop
  | [], _ => True
  | _ :: _, 0 => True
  | x :: _, 1 => match x with
    | some (.long _) => False
    | some (.double _) => False
    | _ => True
  | _ :: l, n + 2 => pm_ok l (n + 1)
section PS
variable {μ : pm_Mt} {G : pm_M → Prop} {d : Nat} {S0 : pm_M} {Q : Outcome → pm_M → Prop} {pc : Nat} {c : pm_K}
theorem ps_at (pc : Nat) : pm_S μ G d S0 Q pc (pm_V μ G d S0 Q pc) := fun _ _ _ h => h
theorem pm_g_s (ls : List (Option Value)) : ∀ (i j : Nat) (v : Option Value), pm_g (pm_s ls i v) j = if j = i then v else pm_g ls j := by
  induction ls with
  | nil =>
    intro i
    induction i with
    | zero => intro j v; cases j <;> simp [pm_s, pm_g]
    | succ i ih =>
      intro j v
      cases j with
      | zero => simp [pm_s, pm_g]
      | succ j => simp only [pm_s, pm_g, ih j v, Nat.succ.injEq, Nat.add_right_cancel_iff]
  | cons x l ih =>
    intro i j v
    cases i with
    | zero => cases j <;> simp [pm_s, pm_g]
    | succ i =>
      cases j with
      | zero => simp [pm_s, pm_g]
      | succ j => simp only [pm_s, pm_g, ih i j v, Nat.add_right_cancel_iff]
theorem pm_ok_spec (ls : List (Option Value)) : ∀ (i : Nat), pm_ok ls i → ∀ (j : Nat) (v : Value), j + 1 = i → pm_g ls j = some v → v.category ≠ 2 := by
  induction ls with
  | nil => intro i _ j v _ h; cases j <;> cases h
  | cons x l ih =>
    intro i h j v hj hg
    match i, h with
    | 0, _ => omega
    | 1, h =>
      have : j = 0 := by omega
      subst this
      simp only [pm_g] at hg
      subst hg
      intro hc
      cases v <;> simp [Value.category] at hc
      · exact h
      · exact h
    | n + 2, h =>
      match j, hg with
      | 0, _ => omega
      | j + 1, hg => exact ih (n + 1) h j v (by omega) hg
/-- the listed locals, for the kit's rows -/
def pm_ll (w : pm_W) (ls : List (Option Value)) (nL : Nat) : List (Nat × Value) := (List.range nL).filterMap fun i => (pm_g ls i).map fun v => (i, pm_v w v)
theorem pm_LS.has {w : pm_W} {nL : Nat} {ls : List (Option Value)} {rls : Array Slot} (h : pm_LS w nL ls rls) : lv_has rls nL (pm_ll w ls nL) := by
  refine ⟨h.1, h.2.1, fun q hq => ?_⟩
  simp only [pm_ll, List.mem_filterMap, Option.map_eq_some_iff] at hq
  obtain ⟨i, -, v, hv, rfl⟩ := hq
  exact h.2.2 i v hv
theorem pm_LS.in {w : pm_W} {nL : Nat} {ls : List (Option Value)} {rls : Array Slot} (h : pm_LS w nL ls rls) {i : Nat} {v : Value} (hv : pm_g ls i = some v) : (i, pm_v w v) ∈ pm_ll w ls nL := by
  have h1 := lv_lt (h.2.2 i v hv)
  rw [h.1] at h1
  simp only [pm_ll, List.mem_filterMap, Option.map_eq_some_iff]
  exact ⟨i, List.mem_range.mpr h1, v, hv, rfl⟩
theorem pm_LS.st1 {w : pm_W} {nL : Nat} {ls : List (Option Value)} {rls : Array Slot} (h : pm_LS w nL ls rls) {i : Nat} {v : Value} (hi : i < nL) (ho : pm_ok ls i) (hc : v.category = 1) : ∃ r', storeLocals rls i (pm_v w v) = some r' ∧ pm_LS w nL (pm_s ls i (some v)) r' := by
  obtain ⟨r', e, h'⟩ := lv_store1 (v := pm_v w v) h.has hi (by rw [pm_cat]; exact hc)
  refine ⟨r', e, h'.1, h'.2.1, fun j x hx => ?_⟩
  rw [pm_g_s] at hx
  by_cases hj : j = i
  · subst hj
    rw [if_pos rfl] at hx
    cases hx
    exact h'.2.2 _ List.mem_cons_self
  · rw [if_neg hj] at hx
    refine h'.2.2 (j, pm_v w x) (List.mem_cons_of_mem _ (List.mem_filter.mpr ⟨h.in hx, ?_⟩))
    simp only [Bool.and_eq_true, Bool.not_eq_true', beq_eq_false_iff_ne, ne_eq, Bool.and_eq_false_iff, pm_cat]
    refine ⟨hj, ?_⟩
    by_cases h1 : j + 1 = i
    · exact Or.inr (pm_ok_spec ls i ho j x h1 hx)
    · exact Or.inl h1
theorem pm_LS.st2 {w : pm_W} {nL : Nat} {ls : List (Option Value)} {rls : Array Slot} (h : pm_LS w nL ls rls) {i : Nat} {v : Value} (hi : i + 1 < nL) (ho : pm_ok ls i) (hc : v.category = 2) : ∃ r', storeLocals rls i (pm_v w v) = some r' ∧ pm_LS w nL (pm_s (pm_s ls i (some v)) (i + 1) none) r' := by
  obtain ⟨r', e, h'⟩ := lv_store2 (v := pm_v w v) h.has hi (by rw [pm_cat]; exact hc)
  refine ⟨r', e, h'.1, h'.2.1, fun j x hx => ?_⟩
  rw [pm_g_s] at hx
  by_cases hj2 : j = i + 1
  · rw [if_pos hj2] at hx; cases hx
  rw [if_neg hj2, pm_g_s] at hx
  by_cases hj : j = i
  · subst hj
    rw [if_pos rfl] at hx
    cases hx
    exact h'.2.2 _ List.mem_cons_self
  · rw [if_neg hj] at hx
    refine h'.2.2 (j, pm_v w x) (List.mem_cons_of_mem _ (List.mem_filter.mpr ⟨h.in hx, ?_⟩))
    simp only [Bool.and_eq_true, Bool.not_eq_true', beq_eq_false_iff_ne, ne_eq, Bool.and_eq_false_iff, pm_cat]
    refine ⟨hj, hj2, ?_⟩
    by_cases h1 : j + 1 = i
    · exact Or.inr (pm_ok_spec ls i ho j x h1 hx)
    · exact Or.inl h1
theorem pm_LS.inc {w : pm_W} {nL : Nat} {ls : List (Option Value)} {rls : Array Slot} (h : pm_LS w nL ls rls) {i : Nat} {v v' : Value} (hv : pm_g ls i = some v) (hc : v'.category = 1) : ∃ r', storeLocals rls i (pm_v w v') = some r' ∧ pm_LS w nL (pm_s ls i (some v')) r' := by
  have hr := h.2.2 i v hv
  have h1 := lv_lt hr
  rw [h.1] at h1
  obtain ⟨r', e, h'⟩ := lv_store1 (v := pm_v w v') h.has h1 (by rw [pm_cat]; exact hc)
  refine ⟨r', e, h'.1, h'.2.1, fun j x hx => ?_⟩
  rw [pm_g_s] at hx
  by_cases hj : j = i
  · subst hj
    rw [if_pos rfl] at hx
    cases hx
    exact h'.2.2 _ List.mem_cons_self
  · rw [if_neg hj] at hx
    refine h'.2.2 (j, pm_v w x) (List.mem_cons_of_mem _ (List.mem_filter.mpr ⟨h.in hx, ?_⟩))
    simp only [Bool.and_eq_true, Bool.not_eq_true', beq_eq_false_iff_ne, ne_eq, Bool.and_eq_false_iff, pm_cat]
    refine ⟨hj, ?_⟩
    by_cases h2 : j + 1 = i
    · refine Or.inr fun hc2 => ?_
      have h3 := h.2.1.1 j (pm_v w x) (h.2.2 j x hx) (by rw [pm_cat]; exact hc2)
      rw [h2, hr] at h3
      cases h3
    · exact Or.inl h2

def pi_iadd (c : pm_K) : pm_K := fun ls st S => match st with
  | .int y :: .int x :: r => c ls (.int (x + y) :: r) S
  | _ => False
theorem ps_iadd (hd : decode μ.2.1 pc = .ok (.iadd, 1)) (hc : pm_S μ G d S0 Q (pc + 1) c) : pm_S μ G d S0 Q pc (pi_iadd c) := by
  intro ls st S h
  unfold pi_iadd at h
  split at h
  · intro w p l e s m args below meth c' X H locs rls hH hG hle hS hL
    exact lv_iadd X.2.2.2.1 X.2.2.2.2.1 hd (hc _ _ _ h w p l e s m args below meth c' X H locs rls hH hG hle hS hL)
  · exact h.elim
def pi_isub (c : pm_K) : pm_K := fun ls st S => match st with
  | .int y :: .int x :: r => c ls (.int (x - y) :: r) S
  | _ => False
theorem ps_isub (hd : decode μ.2.1 pc = .ok (.isub, 1)) (hc : pm_S μ G d S0 Q (pc + 1) c) : pm_S μ G d S0 Q pc (pi_isub c) := by
  intro ls st S h
  unfold pi_isub at h
  split at h
  · intro w p l e s m args below meth c' X H locs rls hH hG hle hS hL
    exact lv_isub X.2.2.2.1 X.2.2.2.2.1 hd (hc _ _ _ h w p l e s m args below meth c' X H locs rls hH hG hle hS hL)
  · exact h.elim
def pi_imul (c : pm_K) : pm_K := fun ls st S => match st with
  | .int y :: .int x :: r => c ls (.int (x * y) :: r) S
  | _ => False
theorem ps_imul (hd : decode μ.2.1 pc = .ok (.imul, 1)) (hc : pm_S μ G d S0 Q (pc + 1) c) : pm_S μ G d S0 Q pc (pi_imul c) := by
  intro ls st S h
  unfold pi_imul at h
  split at h
  · intro w p l e s m args below meth c' X H locs rls hH hG hle hS hL
    exact lv_imul X.2.2.2.1 X.2.2.2.2.1 hd (hc _ _ _ h w p l e s m args below meth c' X H locs rls hH hG hle hS hL)
  · exact h.elim
def pi_iand (c : pm_K) : pm_K := fun ls st S => match st with
  | .int y :: .int x :: r => c ls (.int (x &&& y) :: r) S
  | _ => False
theorem ps_iand (hd : decode μ.2.1 pc = .ok (.iand, 1)) (hc : pm_S μ G d S0 Q (pc + 1) c) : pm_S μ G d S0 Q pc (pi_iand c) := by
  intro ls st S h
  unfold pi_iand at h
  split at h
  · intro w p l e s m args below meth c' X H locs rls hH hG hle hS hL
    exact lv_iand X.2.2.2.1 X.2.2.2.2.1 hd (hc _ _ _ h w p l e s m args below meth c' X H locs rls hH hG hle hS hL)
  · exact h.elim
def pi_ior (c : pm_K) : pm_K := fun ls st S => match st with
  | .int y :: .int x :: r => c ls (.int (x ||| y) :: r) S
  | _ => False
theorem ps_ior (hd : decode μ.2.1 pc = .ok (.ior, 1)) (hc : pm_S μ G d S0 Q (pc + 1) c) : pm_S μ G d S0 Q pc (pi_ior c) := by
  intro ls st S h
  unfold pi_ior at h
  split at h
  · intro w p l e s m args below meth c' X H locs rls hH hG hle hS hL
    exact lv_ior X.2.2.2.1 X.2.2.2.2.1 hd (hc _ _ _ h w p l e s m args below meth c' X H locs rls hH hG hle hS hL)
  · exact h.elim
def pi_ixor (c : pm_K) : pm_K := fun ls st S => match st with
  | .int y :: .int x :: r => c ls (.int (x ^^^ y) :: r) S
  | _ => False
theorem ps_ixor (hd : decode μ.2.1 pc = .ok (.ixor, 1)) (hc : pm_S μ G d S0 Q (pc + 1) c) : pm_S μ G d S0 Q pc (pi_ixor c) := by
  intro ls st S h
  unfold pi_ixor at h
  split at h
  · intro w p l e s m args below meth c' X H locs rls hH hG hle hS hL
    exact lv_ixor X.2.2.2.1 X.2.2.2.2.1 hd (hc _ _ _ h w p l e s m args below meth c' X H locs rls hH hG hle hS hL)
  · exact h.elim
def pi_ladd (c : pm_K) : pm_K := fun ls st S => match st with
  | .long y :: .long x :: r => c ls (.long (x + y) :: r) S
  | _ => False
theorem ps_ladd (hd : decode μ.2.1 pc = .ok (.ladd, 1)) (hc : pm_S μ G d S0 Q (pc + 1) c) : pm_S μ G d S0 Q pc (pi_ladd c) := by
  intro ls st S h
  unfold pi_ladd at h
  split at h
  · intro w p l e s m args below meth c' X H locs rls hH hG hle hS hL
    exact lv_ladd X.2.2.2.1 X.2.2.2.2.1 hd (hc _ _ _ h w p l e s m args below meth c' X H locs rls hH hG hle hS hL)
  · exact h.elim
def pi_lsub (c : pm_K) : pm_K := fun ls st S => match st with
  | .long y :: .long x :: r => c ls (.long (x - y) :: r) S
  | _ => False
theorem ps_lsub (hd : decode μ.2.1 pc = .ok (.lsub, 1)) (hc : pm_S μ G d S0 Q (pc + 1) c) : pm_S μ G d S0 Q pc (pi_lsub c) := by
  intro ls st S h
  unfold pi_lsub at h
  split at h
  · intro w p l e s m args below meth c' X H locs rls hH hG hle hS hL
    exact lv_lsub X.2.2.2.1 X.2.2.2.2.1 hd (hc _ _ _ h w p l e s m args below meth c' X H locs rls hH hG hle hS hL)
  · exact h.elim
def pi_lmul (c : pm_K) : pm_K := fun ls st S => match st with
  | .long y :: .long x :: r => c ls (.long (x * y) :: r) S
  | _ => False
theorem ps_lmul (hd : decode μ.2.1 pc = .ok (.lmul, 1)) (hc : pm_S μ G d S0 Q (pc + 1) c) : pm_S μ G d S0 Q pc (pi_lmul c) := by
  intro ls st S h
  unfold pi_lmul at h
  split at h
  · intro w p l e s m args below meth c' X H locs rls hH hG hle hS hL
    exact lv_lmul X.2.2.2.1 X.2.2.2.2.1 hd (hc _ _ _ h w p l e s m args below meth c' X H locs rls hH hG hle hS hL)
  · exact h.elim
def pi_land (c : pm_K) : pm_K := fun ls st S => match st with
  | .long y :: .long x :: r => c ls (.long (x &&& y) :: r) S
  | _ => False
theorem ps_land (hd : decode μ.2.1 pc = .ok (.land, 1)) (hc : pm_S μ G d S0 Q (pc + 1) c) : pm_S μ G d S0 Q pc (pi_land c) := by
  intro ls st S h
  unfold pi_land at h
  split at h
  · intro w p l e s m args below meth c' X H locs rls hH hG hle hS hL
    exact lv_land X.2.2.2.1 X.2.2.2.2.1 hd (hc _ _ _ h w p l e s m args below meth c' X H locs rls hH hG hle hS hL)
  · exact h.elim
def pi_lor (c : pm_K) : pm_K := fun ls st S => match st with
  | .long y :: .long x :: r => c ls (.long (x ||| y) :: r) S
  | _ => False
theorem ps_lor (hd : decode μ.2.1 pc = .ok (.lor, 1)) (hc : pm_S μ G d S0 Q (pc + 1) c) : pm_S μ G d S0 Q pc (pi_lor c) := by
  intro ls st S h
  unfold pi_lor at h
  split at h
  · intro w p l e s m args below meth c' X H locs rls hH hG hle hS hL
    exact lv_lor X.2.2.2.1 X.2.2.2.2.1 hd (hc _ _ _ h w p l e s m args below meth c' X H locs rls hH hG hle hS hL)
  · exact h.elim
def pi_idiv (c : pm_K) : pm_K := fun ls st S => match st with
  | .int y :: .int x :: r => ¬ y = 0 ∧ c ls (.int (x / y) :: r) S
  | _ => False
theorem ps_idiv (hd : decode μ.2.1 pc = .ok (.idiv, 1)) (hc : pm_S μ G d S0 Q (pc + 1) c) : pm_S μ G d S0 Q pc (pi_idiv c) := by
  intro ls st S h
  unfold pi_idiv at h
  split at h
  · intro w p l e s m args below meth c' X H locs rls hH hG hle hS hL
    exact lv_idiv X.2.2.2.1 X.2.2.2.2.1 hd h.1 (hc _ _ _ h.2 w p l e s m args below meth c' X H locs rls hH hG hle hS hL)
  · exact h.elim
def pi_irem (c : pm_K) : pm_K := fun ls st S => match st with
  | .int y :: .int x :: r => ¬ y = 0 ∧ c ls (.int (x - x / y * y) :: r) S
  | _ => False
theorem ps_irem (hd : decode μ.2.1 pc = .ok (.irem, 1)) (hc : pm_S μ G d S0 Q (pc + 1) c) : pm_S μ G d S0 Q pc (pi_irem c) := by
  intro ls st S h
  unfold pi_irem at h
  split at h
  · intro w p l e s m args below meth c' X H locs rls hH hG hle hS hL
    exact lv_irem X.2.2.2.1 X.2.2.2.2.1 hd h.1 (hc _ _ _ h.2 w p l e s m args below meth c' X H locs rls hH hG hle hS hL)
  · exact h.elim
def pi_ldiv (c : pm_K) : pm_K := fun ls st S => match st with
  | .long y :: .long x :: r => ¬ y = 0 ∧ c ls (.long (x / y) :: r) S
  | _ => False
theorem ps_ldiv (hd : decode μ.2.1 pc = .ok (.ldiv, 1)) (hc : pm_S μ G d S0 Q (pc + 1) c) : pm_S μ G d S0 Q pc (pi_ldiv c) := by
  intro ls st S h
  unfold pi_ldiv at h
  split at h
  · intro w p l e s m args below meth c' X H locs rls hH hG hle hS hL
    exact lv_ldiv X.2.2.2.1 X.2.2.2.2.1 hd h.1 (hc _ _ _ h.2 w p l e s m args below meth c' X H locs rls hH hG hle hS hL)
  · exact h.elim
def pi_lrem (c : pm_K) : pm_K := fun ls st S => match st with
  | .long y :: .long x :: r => ¬ y = 0 ∧ c ls (.long (x - x / y * y) :: r) S
  | _ => False
theorem ps_lrem (hd : decode μ.2.1 pc = .ok (.lrem, 1)) (hc : pm_S μ G d S0 Q (pc + 1) c) : pm_S μ G d S0 Q pc (pi_lrem c) := by
  intro ls st S h
  unfold pi_lrem at h
  split at h
  · intro w p l e s m args below meth c' X H locs rls hH hG hle hS hL
    exact lv_lrem X.2.2.2.1 X.2.2.2.2.1 hd h.1 (hc _ _ _ h.2 w p l e s m args below meth c' X H locs rls hH hG hle hS hL)
  · exact h.elim
def pi_ineg (c : pm_K) : pm_K := fun ls st S => match st with
  | .int x :: r => c ls (.int (-x) :: r) S
  | _ => False
theorem ps_ineg (hd : decode μ.2.1 pc = .ok (.ineg, 1)) (hc : pm_S μ G d S0 Q (pc + 1) c) : pm_S μ G d S0 Q pc (pi_ineg c) := by
  intro ls st S h
  unfold pi_ineg at h
  split at h
  · intro w p l e s m args below meth c' X H locs rls hH hG hle hS hL
    exact lv_ineg X.2.2.2.1 X.2.2.2.2.1 hd (hc _ _ _ h w p l e s m args below meth c' X H locs rls hH hG hle hS hL)
  · exact h.elim
def pi_ishl (c : pm_K) : pm_K := fun ls st S => match st with
  | .int y :: .int x :: r => c ls (.int (x <<< (y &&& 31)) :: r) S
  | _ => False
theorem ps_ishl (hd : decode μ.2.1 pc = .ok (.ishl, 1)) (hc : pm_S μ G d S0 Q (pc + 1) c) : pm_S μ G d S0 Q pc (pi_ishl c) := by
  intro ls st S h
  unfold pi_ishl at h
  split at h
  · intro w p l e s m args below meth c' X H locs rls hH hG hle hS hL
    exact lv_ishl X.2.2.2.1 X.2.2.2.2.1 hd (hc _ _ _ h w p l e s m args below meth c' X H locs rls hH hG hle hS hL)
  · exact h.elim
def pi_ishr (c : pm_K) : pm_K := fun ls st S => match st with
  | .int y :: .int x :: r => c ls (.int (x >>> (y &&& 31)) :: r) S
  | _ => False
theorem ps_ishr (hd : decode μ.2.1 pc = .ok (.ishr, 1)) (hc : pm_S μ G d S0 Q (pc + 1) c) : pm_S μ G d S0 Q pc (pi_ishr c) := by
  intro ls st S h
  unfold pi_ishr at h
  split at h
  · intro w p l e s m args below meth c' X H locs rls hH hG hle hS hL
    exact lv_ishr X.2.2.2.1 X.2.2.2.2.1 hd (hc _ _ _ h w p l e s m args below meth c' X H locs rls hH hG hle hS hL)
  · exact h.elim
def pi_iushr (c : pm_K) : pm_K := fun ls st S => match st with
  | .int y :: .int x :: r => c ls (.int ((x.toUInt32 >>> (y.toUInt32 &&& Int32.toUInt32 31)).toInt32) :: r) S
  | _ => False
theorem ps_iushr (hd : decode μ.2.1 pc = .ok (.iushr, 1)) (hc : pm_S μ G d S0 Q (pc + 1) c) : pm_S μ G d S0 Q pc (pi_iushr c) := by
  intro ls st S h
  unfold pi_iushr at h
  split at h
  · intro w p l e s m args below meth c' X H locs rls hH hG hle hS hL
    exact lv_iushr X.2.2.2.1 X.2.2.2.2.1 hd rfl (hc _ _ _ h w p l e s m args below meth c' X H locs rls hH hG hle hS hL)
  · exact h.elim
def pi_lshl (c : pm_K) : pm_K := fun ls st S => match st with
  | .int y :: .long x :: r => c ls (.long (x <<< (y.toInt64 &&& 63)) :: r) S
  | _ => False
theorem ps_lshl (hd : decode μ.2.1 pc = .ok (.lshl, 1)) (hc : pm_S μ G d S0 Q (pc + 1) c) : pm_S μ G d S0 Q pc (pi_lshl c) := by
  intro ls st S h
  unfold pi_lshl at h
  split at h
  · intro w p l e s m args below meth c' X H locs rls hH hG hle hS hL
    exact lv_lshl X.2.2.2.1 X.2.2.2.2.1 hd rfl (hc _ _ _ h w p l e s m args below meth c' X H locs rls hH hG hle hS hL)
  · exact h.elim
def pi_i2l (c : pm_K) : pm_K := fun ls st S => match st with
  | .int x :: r => c ls (.long x.toInt64 :: r) S
  | _ => False
theorem ps_i2l (hd : decode μ.2.1 pc = .ok (.i2l, 1)) (hc : pm_S μ G d S0 Q (pc + 1) c) : pm_S μ G d S0 Q pc (pi_i2l c) := by
  intro ls st S h
  unfold pi_i2l at h
  split at h
  · intro w p l e s m args below meth c' X H locs rls hH hG hle hS hL
    exact lv_i2l X.2.2.2.1 X.2.2.2.2.1 hd rfl (hc _ _ _ h w p l e s m args below meth c' X H locs rls hH hG hle hS hL)
  · exact h.elim
def pi_l2i (c : pm_K) : pm_K := fun ls st S => match st with
  | .long x :: r => c ls (.int x.toInt32 :: r) S
  | _ => False
theorem ps_l2i (hd : decode μ.2.1 pc = .ok (.l2i, 1)) (hc : pm_S μ G d S0 Q (pc + 1) c) : pm_S μ G d S0 Q pc (pi_l2i c) := by
  intro ls st S h
  unfold pi_l2i at h
  split at h
  · intro w p l e s m args below meth c' X H locs rls hH hG hle hS hL
    exact lv_l2i X.2.2.2.1 X.2.2.2.2.1 hd rfl (hc _ _ _ h w p l e s m args below meth c' X H locs rls hH hG hle hS hL)
  · exact h.elim
def pi_i2b (c : pm_K) : pm_K := fun ls st S => match st with
  | .int x :: r => c ls (.int x.toInt8.toInt32 :: r) S
  | _ => False
theorem ps_i2b (hd : decode μ.2.1 pc = .ok (.i2b, 1)) (hc : pm_S μ G d S0 Q (pc + 1) c) : pm_S μ G d S0 Q pc (pi_i2b c) := by
  intro ls st S h
  unfold pi_i2b at h
  split at h
  · intro w p l e s m args below meth c' X H locs rls hH hG hle hS hL
    exact lv_i2b X.2.2.2.1 X.2.2.2.2.1 hd rfl (hc _ _ _ h w p l e s m args below meth c' X H locs rls hH hG hle hS hL)
  · exact h.elim
def pi_i2s (c : pm_K) : pm_K := fun ls st S => match st with
  | .int x :: r => c ls (.int x.toInt16.toInt32 :: r) S
  | _ => False
theorem ps_i2s (hd : decode μ.2.1 pc = .ok (.i2s, 1)) (hc : pm_S μ G d S0 Q (pc + 1) c) : pm_S μ G d S0 Q pc (pi_i2s c) := by
  intro ls st S h
  unfold pi_i2s at h
  split at h
  · intro w p l e s m args below meth c' X H locs rls hH hG hle hS hL
    exact lv_i2s X.2.2.2.1 X.2.2.2.2.1 hd rfl (hc _ _ _ h w p l e s m args below meth c' X H locs rls hH hG hle hS hL)
  · exact h.elim
def pi_lcmp (c : pm_K) : pm_K := fun ls st S => match st with
  | .long y :: .long x :: r => c ls (.int (lg_cmp x y) :: r) S
  | _ => False
theorem ps_lcmp (hd : decode μ.2.1 pc = .ok (.lcmp, 1)) (hc : pm_S μ G d S0 Q (pc + 1) c) : pm_S μ G d S0 Q pc (pi_lcmp c) := by
  intro ls st S h
  unfold pi_lcmp at h
  split at h
  · intro w p l e s m args below meth c' X H locs rls hH hG hle hS hL
    exact W.lcmp X.2.2.2.1 X.2.2.2.2.1 hd (hc _ _ _ h w p l e s m args below meth c' X H locs rls hH hG hle hS hL)
  · exact h.elim
def pi_dup (c : pm_K) : pm_K := fun ls st S => match st with
  | v :: r => v.category = 1 ∧ c ls (v :: v :: r) S
  | _ => False
theorem ps_dup (hd : decode μ.2.1 pc = .ok (.dup, 1)) (hc : pm_S μ G d S0 Q (pc + 1) c) : pm_S μ G d S0 Q pc (pi_dup c) := by
  intro ls st S h
  unfold pi_dup at h
  split at h
  · intro w p l e s m args below meth c' X H locs rls hH hG hle hS hL
    exact lv_dup X.2.2.2.1 X.2.2.2.2.1 hd (by rw [pm_cat]; exact h.1) (hc _ _ _ h.2 w p l e s m args below meth c' X H locs rls hH hG hle hS hL)
  · exact h.elim
def pi_pop (c : pm_K) : pm_K := fun ls st S => match st with
  | v :: r => v.category = 1 ∧ c ls r S
  | _ => False
theorem ps_pop (hd : decode μ.2.1 pc = .ok (.pop, 1)) (hc : pm_S μ G d S0 Q (pc + 1) c) : pm_S μ G d S0 Q pc (pi_pop c) := by
  intro ls st S h
  unfold pi_pop at h
  split at h
  · intro w p l e s m args below meth c' X H locs rls hH hG hle hS hL
    exact lv_pop X.2.2.2.1 X.2.2.2.2.1 hd (by rw [pm_cat]; exact h.1) (hc _ _ _ h.2 w p l e s m args below meth c' X H locs rls hH hG hle hS hL)
  · exact h.elim
def pi_dupx1 (c : pm_K) : pm_K := fun ls st S => match st with
  | v :: u :: r => (v.category = 1 ∧ u.category = 1) ∧ c ls (v :: u :: v :: r) S
  | _ => False
theorem ps_dupx1 (hd : decode μ.2.1 pc = .ok (.dup_x1, 1)) (hc : pm_S μ G d S0 Q (pc + 1) c) : pm_S μ G d S0 Q pc (pi_dupx1 c) := by
  intro ls st S h
  unfold pi_dupx1 at h
  split at h
  · intro w p l e s m args below meth c' X H locs rls hH hG hle hS hL
    exact lv_dup_x1 X.2.2.2.1 X.2.2.2.2.1 hd (by rw [pm_cat]; exact h.1.1) (by rw [pm_cat]; exact h.1.2) (hc _ _ _ h.2 w p l e s m args below meth c' X H locs rls hH hG hle hS hL)
  · exact h.elim
def pi_dupx2 (c : pm_K) : pm_K := fun ls st S => match st with
  | v :: u :: z :: r => (v.category = 1 ∧ u.category = 1 ∧ z.category = 1) ∧ c ls (v :: u :: z :: v :: r) S
  | _ => False
theorem ps_dupx2 (hd : decode μ.2.1 pc = .ok (.dup_x2, 1)) (hc : pm_S μ G d S0 Q (pc + 1) c) : pm_S μ G d S0 Q pc (pi_dupx2 c) := by
  intro ls st S h
  unfold pi_dupx2 at h
  split at h
  · intro w p l e s m args below meth c' X H locs rls hH hG hle hS hL
    exact lv_dup_x2 X.2.2.2.1 X.2.2.2.2.1 hd (by rw [pm_cat]; exact h.1.1) (by rw [pm_cat]; exact h.1.2.1) (by rw [pm_cat]; exact h.1.2.2) (hc _ _ _ h.2 w p l e s m args below meth c' X H locs rls hH hG hle hS hL)
  · exact h.elim
def pi_dup2 (c : pm_K) : pm_K := fun ls st S => match st with
  | v :: u :: r => (v.category = 1 ∧ u.category = 1) ∧ c ls (v :: u :: v :: u :: r) S
  | _ => False
theorem ps_dup2 (hd : decode μ.2.1 pc = .ok (.dup2, 1)) (hc : pm_S μ G d S0 Q (pc + 1) c) : pm_S μ G d S0 Q pc (pi_dup2 c) := by
  intro ls st S h
  unfold pi_dup2 at h
  split at h
  · intro w p l e s m args below meth c' X H locs rls hH hG hle hS hL
    exact lv_dup2_11 X.2.2.2.1 X.2.2.2.2.1 hd (by rw [pm_cat]; exact h.1.1) (by rw [pm_cat]; exact h.1.2) (hc _ _ _ h.2 w p l e s m args below meth c' X H locs rls hH hG hle hS hL)
  · exact h.elim
def pi_ic (v : Int32) (c : pm_K) : pm_K := fun ls st S => c ls (.int v :: st) S
theorem ps_iconst {n : Int} {v : Int32} (hd : decode μ.2.1 pc = .ok (.iconst n, 1)) (hv : Int32.ofInt n = v) (hc : pm_S μ G d S0 Q (pc + 1) c) : pm_S μ G d S0 Q pc (pi_ic v c) := by
  intro ls st S h w p l e s m args below meth c' X H locs rls hH hG hle hS hL
  exact lv_iconst X.2.2.2.1 X.2.2.2.2.1 hd hv (hc _ _ _ h w p l e s m args below meth c' X H locs rls hH hG hle hS hL)
theorem ps_bipush {n : Int} {v : Int32} (hd : decode μ.2.1 pc = .ok (.bipush n, 2)) (hv : (Int8.ofInt n).toInt32 = v) (hc : pm_S μ G d S0 Q (pc + 2) c) : pm_S μ G d S0 Q pc (pi_ic v c) := by
  intro ls st S h w p l e s m args below meth c' X H locs rls hH hG hle hS hL
  exact lv_bipush X.2.2.2.1 X.2.2.2.2.1 hd hv (hc _ _ _ h w p l e s m args below meth c' X H locs rls hH hG hle hS hL)
theorem ps_sipush {n : Int} {v : Int32} (hd : decode μ.2.1 pc = .ok (.sipush n, 3)) (hv : (Int16.ofInt n).toInt32 = v) (hc : pm_S μ G d S0 Q (pc + 3) c) : pm_S μ G d S0 Q pc (pi_ic v c) := by
  intro ls st S h w p l e s m args below meth c' X H locs rls hH hG hle hS hL
  exact lv_sipush X.2.2.2.1 X.2.2.2.2.1 hd hv (hc _ _ _ h w p l e s m args below meth c' X H locs rls hH hG hle hS hL)
theorem ps_ldc {n : Nat} {v : Int32} (hd : decode μ.2.1 pc = .ok (.ldc n, 2)) (hv : Jvm.Cond.constant μ.1.cls n v ∈ lw_all) (hc : pm_S μ G d S0 Q (pc + 2) c) : pm_S μ G d S0 Q pc (pi_ic v c) := by
  intro ls st S h w p l e s m args below meth c' X H locs rls hH hG hle hS hL
  exact lv_ldc X.2.2.2.1 X.2.2.2.2.1 X.2.2.2.2.2.2.2.1 (pm_word X.1 X.2.1 hv _) hd (hc _ _ _ h w p l e s m args below meth c' X H locs rls hH hG hle hS hL)
theorem ps_ldcw {n : Nat} {v : Int32} (hd : decode μ.2.1 pc = .ok (.ldc_w n, 3)) (hv : Jvm.Cond.constant μ.1.cls n v ∈ lw_all) (hc : pm_S μ G d S0 Q (pc + 3) c) : pm_S μ G d S0 Q pc (pi_ic v c) := by
  intro ls st S h w p l e s m args below meth c' X H locs rls hH hG hle hS hL
  exact lv_ldcw X.2.2.2.1 X.2.2.2.2.1 X.2.2.2.2.2.2.2.1 (pm_word X.1 X.2.1 hv _) hd (hc _ _ _ h w p l e s m args below meth c' X H locs rls hH hG hle hS hL)
def pi_lc (v : Int64) (c : pm_K) : pm_K := fun ls st S => c ls (.long v :: st) S
theorem ps_lconst {n : Fin 2} {v : Int64} (hd : decode μ.2.1 pc = .ok (.lconst n, 1)) (hv : Int64.ofNat (n : Nat) = v) (hc : pm_S μ G d S0 Q (pc + 1) c) : pm_S μ G d S0 Q pc (pi_lc v c) := by
  intro ls st S h w p l e s m args below meth c' X H locs rls hH hG hle hS hL
  exact lv_lconst X.2.2.2.1 X.2.2.2.2.1 hd hv (hc _ _ _ h w p l e s m args below meth c' X H locs rls hH hG hle hS hL)
theorem ps_ldc2 {n : Nat} {v : Int64} (hd : decode μ.2.1 pc = .ok (.ldc2_w n, 3)) (hv : Jvm.Cond.constantLong μ.1.cls n v ∈ lw_all) (hc : pm_S μ G d S0 Q (pc + 3) c) : pm_S μ G d S0 Q pc (pi_lc v c) := by
  intro ls st S h w p l e s m args below meth c' X H locs rls hH hG hle hS hL
  exact lv_ldc2 X.2.2.2.1 X.2.2.2.2.1 X.2.2.2.2.2.2.2.1 (pm_word X.1 X.2.1 hv _) hd (hc _ _ _ h w p l e s m args below meth c' X H locs rls hH hG hle hS hL)
def pi_nul (c : pm_K) : pm_K := fun ls st S => c ls (.null :: st) S
theorem ps_nul (hd : decode μ.2.1 pc = .ok (.aconst_null, 1)) (hc : pm_S μ G d S0 Q (pc + 1) c) : pm_S μ G d S0 Q pc (pi_nul c) := by
  intro ls st S h w p l e s m args below meth c' X H locs rls hH hG hle hS hL
  exact lv_null X.2.2.2.1 X.2.2.2.2.1 hd (hc _ _ _ h w p l e s m args below meth c' X H locs rls hH hG hle hS hL)
def pi_il (i : Nat) (c : pm_K) : pm_K := fun ls st S => match pm_g ls i with
  | some (.int x) => c ls (.int x :: st) S
  | _ => False
theorem ps_il {i : Nat} (hd : decode μ.2.1 pc = .ok (.iload i, 2)) (hc : pm_S μ G d S0 Q (pc + 2) c) : pm_S μ G d S0 Q pc (pi_il i c) := by
  intro ls st S h
  unfold pi_il at h
  split at h
  · rename_i x hg
    intro w p l e s m args below meth c' X H locs rls hH hG hle hS hL
    exact lv_iload X.2.2.2.1 X.2.2.2.2.1 hd (hL.2.2 i _ hg) (hc _ _ _ h w p l e s m args below meth c' X H locs rls hH hG hle hS hL)
  · exact h.elim
theorem ps_iln {k : Fin 4} {i : Nat} (hd : decode μ.2.1 pc = .ok (.iload_n k, 1)) (hi : (k : Nat) = i) (hc : pm_S μ G d S0 Q (pc + 1) c) : pm_S μ G d S0 Q pc (pi_il i c) := by
  intro ls st S h
  unfold pi_il at h
  split at h
  · rename_i x hg
    intro w p l e s m args below meth c' X H locs rls hH hG hle hS hL
    exact lv_iload_n X.2.2.2.1 X.2.2.2.2.1 hd hi (hL.2.2 i _ hg) (hc _ _ _ h w p l e s m args below meth c' X H locs rls hH hG hle hS hL)
  · exact h.elim
def pi_ll (i : Nat) (c : pm_K) : pm_K := fun ls st S => match pm_g ls i with
  | some (.long x) => c ls (.long x :: st) S
  | _ => False
theorem ps_ll {i : Nat} (hd : decode μ.2.1 pc = .ok (.lload i, 2)) (hc : pm_S μ G d S0 Q (pc + 2) c) : pm_S μ G d S0 Q pc (pi_ll i c) := by
  intro ls st S h
  unfold pi_ll at h
  split at h
  · rename_i x hg
    intro w p l e s m args below meth c' X H locs rls hH hG hle hS hL
    exact lv_lload X.2.2.2.1 X.2.2.2.2.1 hd (hL.2.2 i _ hg) (hc _ _ _ h w p l e s m args below meth c' X H locs rls hH hG hle hS hL)
  · exact h.elim
theorem ps_lln {k : Fin 4} {i : Nat} (hd : decode μ.2.1 pc = .ok (.lload_n k, 1)) (hi : (k : Nat) = i) (hc : pm_S μ G d S0 Q (pc + 1) c) : pm_S μ G d S0 Q pc (pi_ll i c) := by
  intro ls st S h
  unfold pi_ll at h
  split at h
  · rename_i x hg
    intro w p l e s m args below meth c' X H locs rls hH hG hle hS hL
    exact lv_lload_n X.2.2.2.1 X.2.2.2.2.1 hd hi (hL.2.2 i _ hg) (hc _ _ _ h w p l e s m args below meth c' X H locs rls hH hG hle hS hL)
  · exact h.elim
def pi_rl (i : Nat) (c : pm_K) : pm_K := fun ls st S => match pm_g ls i with
  | some (.ref x) => c ls (.ref x :: st) S
  | some .null => c ls (.null :: st) S
  | _ => False
theorem ps_rl {i : Nat} (hd : decode μ.2.1 pc = .ok (.aload i, 2)) (hc : pm_S μ G d S0 Q (pc + 2) c) : pm_S μ G d S0 Q pc (pi_rl i c) := by
  intro ls st S h
  unfold pi_rl at h
  split at h
  · rename_i x hg
    intro w p l e s m args below meth c' X H locs rls hH hG hle hS hL
    exact lv_aload X.2.2.2.1 X.2.2.2.2.1 hd (hL.2.2 i _ hg) (hc _ _ _ h w p l e s m args below meth c' X H locs rls hH hG hle hS hL)
  · rename_i hg
    intro w p l e s m args below meth c' X H locs rls hH hG hle hS hL
    exact lv_aloadN X.2.2.2.1 X.2.2.2.2.1 hd (hL.2.2 i _ hg) (hc _ _ _ h w p l e s m args below meth c' X H locs rls hH hG hle hS hL)
  · exact h.elim
theorem ps_rln {k : Fin 4} {i : Nat} (hd : decode μ.2.1 pc = .ok (.aload_n k, 1)) (hi : (k : Nat) = i) (hc : pm_S μ G d S0 Q (pc + 1) c) : pm_S μ G d S0 Q pc (pi_rl i c) := by
  intro ls st S h
  unfold pi_rl at h
  split at h
  · rename_i x hg
    intro w p l e s m args below meth c' X H locs rls hH hG hle hS hL
    exact lv_aload_n X.2.2.2.1 X.2.2.2.2.1 hd hi (hL.2.2 i _ hg) (hc _ _ _ h w p l e s m args below meth c' X H locs rls hH hG hle hS hL)
  · rename_i hg
    intro w p l e s m args below meth c' X H locs rls hH hG hle hS hL
    exact lv_aload_nN X.2.2.2.1 X.2.2.2.2.1 hd hi (hL.2.2 i _ hg) (hc _ _ _ h w p l e s m args below meth c' X H locs rls hH hG hle hS hL)
  · exact h.elim
def pi_is (i : Nat) (c : pm_K) : pm_K := fun ls st S => match st with
  | .int x :: r => pm_ok ls i ∧ c (pm_s ls i (some (.int x))) r S
  | _ => False
def pi_ls (i : Nat) (c : pm_K) : pm_K := fun ls st S => match st with
  | .long x :: r => pm_ok ls i ∧ c (pm_s (pm_s ls i (some (.long x))) (i + 1) none) r S
  | _ => False
def pi_rs (i : Nat) (c : pm_K) : pm_K := fun ls st S => match st with
  | .ref x :: r => pm_ok ls i ∧ c (pm_s ls i (some (.ref x))) r S
  | .null :: r => pm_ok ls i ∧ c (pm_s ls i (some .null)) r S
  | _ => False
theorem ps_is {i : Nat} (hd : decode μ.2.1 pc = .ok (.istore i, 2)) (hn : i < μ.2.2.1) (hc : pm_S μ G d S0 Q (pc + 2) c) : pm_S μ G d S0 Q pc (pi_is i c) := by
  intro ls st S h
  unfold pi_is at h
  split at h
  · rename_i x r
    intro w p l e s m args below meth c' X H locs rls hH hG hle hS hL
    obtain ⟨r', e1, hL'⟩ := hL.st1 (v := .int x) hn h.1 rfl
    intro T hT XX
    obtain ⟨t, a, b⟩ := hc _ _ _ h.2 w p l e s m args below meth c' X H locs r' hH hG hle hS hL' T hT XX
    refine ⟨t, ?_, b⟩
    have e1 : storeLocals rls i (pm_v w (.int x)) = some r' := e1
    simp only [pm_v] at e1
    jvm_step XX.here [XX.here.top, X.2.2.2.1, X.2.2.2.2.1, hd, e1, pm_v]
    exact a
  · exact h.elim
theorem ps_ls {i : Nat} (hd : decode μ.2.1 pc = .ok (.lstore i, 2)) (hn : i + 1 < μ.2.2.1) (hc : pm_S μ G d S0 Q (pc + 2) c) : pm_S μ G d S0 Q pc (pi_ls i c) := by
  intro ls st S h
  unfold pi_ls at h
  split at h
  · rename_i x r
    intro w p l e s m args below meth c' X H locs rls hH hG hle hS hL
    obtain ⟨r', e1, hL'⟩ := hL.st2 (v := .long x) hn h.1 rfl
    intro T hT XX
    obtain ⟨t, a, b⟩ := hc _ _ _ h.2 w p l e s m args below meth c' X H locs r' hH hG hle hS hL' T hT XX
    refine ⟨t, ?_, b⟩
    have e1 : storeLocals rls i (pm_v w (.long x)) = some r' := e1
    simp only [pm_v] at e1
    jvm_step XX.here [XX.here.top, X.2.2.2.1, X.2.2.2.2.1, hd, e1, pm_v]
    exact a
  · exact h.elim
theorem ps_rs {i : Nat} (hd : decode μ.2.1 pc = .ok (.astore i, 2)) (hn : i < μ.2.2.1) (hc : pm_S μ G d S0 Q (pc + 2) c) : pm_S μ G d S0 Q pc (pi_rs i c) := by
  intro ls st S h
  unfold pi_rs at h
  split at h
  · rename_i x r
    intro w p l e s m args below meth c' X H locs rls hH hG hle hS hL
    obtain ⟨r', e1, hL'⟩ := hL.st1 (v := .ref x) hn h.1 rfl
    intro T hT XX
    obtain ⟨t, a, b⟩ := hc _ _ _ h.2 w p l e s m args below meth c' X H locs r' hH hG hle hS hL' T hT XX
    refine ⟨t, ?_, b⟩
    have e1 : storeLocals rls i (pm_v w (.ref x)) = some r' := e1
    simp only [pm_v] at e1
    jvm_step XX.here [XX.here.top, X.2.2.2.1, X.2.2.2.2.1, hd, e1, pm_v]
    exact ⟨rfl, a⟩
  · rename_i r
    intro w p l e s m args below meth c' X H locs rls hH hG hle hS hL
    obtain ⟨r', e1, hL'⟩ := hL.st1 (v := .null) hn h.1 rfl
    intro T hT XX
    obtain ⟨t, a, b⟩ := hc _ _ _ h.2 w p l e s m args below meth c' X H locs r' hH hG hle hS hL' T hT XX
    refine ⟨t, ?_, b⟩
    have e1 : storeLocals rls i (pm_v w (.null)) = some r' := e1
    simp only [pm_v] at e1
    jvm_step XX.here [XX.here.top, X.2.2.2.1, X.2.2.2.2.1, hd, e1, pm_v]
    exact ⟨rfl, a⟩
  · exact h.elim
theorem ps_isn {k : Fin 4} {i : Nat} (hd : decode μ.2.1 pc = .ok (.istore_n k, 1)) (hi : (k : Nat) = i) (hn : i < μ.2.2.1) (hc : pm_S μ G d S0 Q (pc + 1) c) : pm_S μ G d S0 Q pc (pi_is i c) := by
  intro ls st S h
  unfold pi_is at h
  split at h
  · rename_i x r
    intro w p l e s m args below meth c' X H locs rls hH hG hle hS hL
    obtain ⟨r', e1, hL'⟩ := hL.st1 (v := .int x) hn h.1 rfl
    intro T hT XX
    obtain ⟨t, a, b⟩ := hc _ _ _ h.2 w p l e s m args below meth c' X H locs r' hH hG hle hS hL' T hT XX
    refine ⟨t, ?_, b⟩
    have e1 : storeLocals rls (k : Nat) (pm_v w (.int x)) = some r' := by rw [hi]; exact e1
    simp only [pm_v] at e1
    jvm_step XX.here [XX.here.top, X.2.2.2.1, X.2.2.2.2.1, hd, e1, pm_v]
    exact a
  · exact h.elim
theorem ps_lsn {k : Fin 4} {i : Nat} (hd : decode μ.2.1 pc = .ok (.lstore_n k, 1)) (hi : (k : Nat) = i) (hn : i + 1 < μ.2.2.1) (hc : pm_S μ G d S0 Q (pc + 1) c) : pm_S μ G d S0 Q pc (pi_ls i c) := by
  intro ls st S h
  unfold pi_ls at h
  split at h
  · rename_i x r
    intro w p l e s m args below meth c' X H locs rls hH hG hle hS hL
    obtain ⟨r', e1, hL'⟩ := hL.st2 (v := .long x) hn h.1 rfl
    intro T hT XX
    obtain ⟨t, a, b⟩ := hc _ _ _ h.2 w p l e s m args below meth c' X H locs r' hH hG hle hS hL' T hT XX
    refine ⟨t, ?_, b⟩
    have e1 : storeLocals rls (k : Nat) (pm_v w (.long x)) = some r' := by rw [hi]; exact e1
    simp only [pm_v] at e1
    jvm_step XX.here [XX.here.top, X.2.2.2.1, X.2.2.2.2.1, hd, e1, pm_v]
    exact a
  · exact h.elim
theorem ps_rsn {k : Fin 4} {i : Nat} (hd : decode μ.2.1 pc = .ok (.astore_n k, 1)) (hi : (k : Nat) = i) (hn : i < μ.2.2.1) (hc : pm_S μ G d S0 Q (pc + 1) c) : pm_S μ G d S0 Q pc (pi_rs i c) := by
  intro ls st S h
  unfold pi_rs at h
  split at h
  · rename_i x r
    intro w p l e s m args below meth c' X H locs rls hH hG hle hS hL
    obtain ⟨r', e1, hL'⟩ := hL.st1 (v := .ref x) hn h.1 rfl
    intro T hT XX
    obtain ⟨t, a, b⟩ := hc _ _ _ h.2 w p l e s m args below meth c' X H locs r' hH hG hle hS hL' T hT XX
    refine ⟨t, ?_, b⟩
    have e1 : storeLocals rls (k : Nat) (pm_v w (.ref x)) = some r' := by rw [hi]; exact e1
    simp only [pm_v] at e1
    jvm_step XX.here [XX.here.top, X.2.2.2.1, X.2.2.2.2.1, hd, e1, pm_v]
    exact ⟨rfl, a⟩
  · rename_i r
    intro w p l e s m args below meth c' X H locs rls hH hG hle hS hL
    obtain ⟨r', e1, hL'⟩ := hL.st1 (v := .null) hn h.1 rfl
    intro T hT XX
    obtain ⟨t, a, b⟩ := hc _ _ _ h.2 w p l e s m args below meth c' X H locs r' hH hG hle hS hL' T hT XX
    refine ⟨t, ?_, b⟩
    have e1 : storeLocals rls (k : Nat) (pm_v w (.null)) = some r' := by rw [hi]; exact e1
    simp only [pm_v] at e1
    jvm_step XX.here [XX.here.top, X.2.2.2.1, X.2.2.2.2.1, hd, e1, pm_v]
    exact ⟨rfl, a⟩
  · exact h.elim
def pi_inc (i : Nat) (n : Int32) (c : pm_K) : pm_K := fun ls st S => match pm_g ls i with
  | some (.int x) => c (pm_s ls i (some (.int (x + n)))) st S
  | _ => False
theorem ps_inc {i : Nat} {n : Int} {v : Int32} (hd : decode μ.2.1 pc = .ok (.iinc i n, 3)) (hv : Int32.ofInt n = v) (hc : pm_S μ G d S0 Q (pc + 3) c) : pm_S μ G d S0 Q pc (pi_inc i v c) := by
  intro ls st S h
  subst hv
  unfold pi_inc at h
  split at h
  · rename_i x hg
    intro w p l e s m args below meth c' X H locs rls hH hG hle hS hL
    obtain ⟨r', e1, hL'⟩ := hL.inc (v' := .int (x + Int32.ofInt n)) hg rfl
    intro T hT XX
    obtain ⟨t, a, b⟩ := hc _ _ _ h w p l e s m args below meth c' X H locs r' hH hG hle hS hL' T hT XX
    refine ⟨t, ?_, b⟩
    have hl := hL.2.2 i _ hg
    simp only [pm_v] at e1 hl
    jvm_step XX.here [XX.here.top, ↓top_set XX.here.top, X.2.2.2.1, X.2.2.2.2.1, hd, hl, e1, pm_v]
    exact a
  · exact h.elim
def pi_ifeq (c1 c2 : pm_K) : pm_K := fun ls st S => match st with
  | .int x :: r => (x = 0 → c1 ls r S) ∧ (¬ x = 0 → c2 ls r S)
  | _ => False
theorem ps_ifeq {c1 c2 : pm_K} {off : Int} {tgt : Nat} (hd : decode μ.2.1 pc = .ok (.ifCond .eq off, 3)) (ht : (pc : Int) + off = (tgt : Int)) (h1 : pm_S μ G d S0 Q tgt c1) (h2 : pm_S μ G d S0 Q (pc + 3) c2) : pm_S μ G d S0 Q pc (pi_ifeq c1 c2) := by
  intro ls st S h
  unfold pi_ifeq at h
  split at h
  · intro w p l e s m args below meth c' X H locs rls hH hG hle hS hL
    exact lv_if_eq X.2.2.2.1 X.2.2.2.2.1 hd ht (fun q => h1 _ _ _ (h.1 q) w p l e s m args below meth c' X H locs rls hH hG hle hS hL) (fun q => h2 _ _ _ (h.2 q) w p l e s m args below meth c' X H locs rls hH hG hle hS hL)
  · exact h.elim
def pi_ifne (c1 c2 : pm_K) : pm_K := fun ls st S => match st with
  | .int x :: r => (¬ x = 0 → c1 ls r S) ∧ (x = 0 → c2 ls r S)
  | _ => False
theorem ps_ifne {c1 c2 : pm_K} {off : Int} {tgt : Nat} (hd : decode μ.2.1 pc = .ok (.ifCond .ne off, 3)) (ht : (pc : Int) + off = (tgt : Int)) (h1 : pm_S μ G d S0 Q tgt c1) (h2 : pm_S μ G d S0 Q (pc + 3) c2) : pm_S μ G d S0 Q pc (pi_ifne c1 c2) := by
  intro ls st S h
  unfold pi_ifne at h
  split at h
  · intro w p l e s m args below meth c' X H locs rls hH hG hle hS hL
    exact lv_if_ne X.2.2.2.1 X.2.2.2.2.1 hd ht (fun q => h1 _ _ _ (h.1 q) w p l e s m args below meth c' X H locs rls hH hG hle hS hL) (fun q => h2 _ _ _ (h.2 q) w p l e s m args below meth c' X H locs rls hH hG hle hS hL)
  · exact h.elim
def pi_iflt (c1 c2 : pm_K) : pm_K := fun ls st S => match st with
  | .int x :: r => (x < 0 → c1 ls r S) ∧ (¬ x < 0 → c2 ls r S)
  | _ => False
theorem ps_iflt {c1 c2 : pm_K} {off : Int} {tgt : Nat} (hd : decode μ.2.1 pc = .ok (.ifCond .lt off, 3)) (ht : (pc : Int) + off = (tgt : Int)) (h1 : pm_S μ G d S0 Q tgt c1) (h2 : pm_S μ G d S0 Q (pc + 3) c2) : pm_S μ G d S0 Q pc (pi_iflt c1 c2) := by
  intro ls st S h
  unfold pi_iflt at h
  split at h
  · intro w p l e s m args below meth c' X H locs rls hH hG hle hS hL
    exact lv_if_lt X.2.2.2.1 X.2.2.2.2.1 hd ht (fun q => h1 _ _ _ (h.1 q) w p l e s m args below meth c' X H locs rls hH hG hle hS hL) (fun q => h2 _ _ _ (h.2 q) w p l e s m args below meth c' X H locs rls hH hG hle hS hL)
  · exact h.elim
def pi_ifge (c1 c2 : pm_K) : pm_K := fun ls st S => match st with
  | .int x :: r => (0 ≤ x → c1 ls r S) ∧ (¬ 0 ≤ x → c2 ls r S)
  | _ => False
theorem ps_ifge {c1 c2 : pm_K} {off : Int} {tgt : Nat} (hd : decode μ.2.1 pc = .ok (.ifCond .ge off, 3)) (ht : (pc : Int) + off = (tgt : Int)) (h1 : pm_S μ G d S0 Q tgt c1) (h2 : pm_S μ G d S0 Q (pc + 3) c2) : pm_S μ G d S0 Q pc (pi_ifge c1 c2) := by
  intro ls st S h
  unfold pi_ifge at h
  split at h
  · intro w p l e s m args below meth c' X H locs rls hH hG hle hS hL
    exact lv_if_ge X.2.2.2.1 X.2.2.2.2.1 hd ht (fun q => h1 _ _ _ (h.1 q) w p l e s m args below meth c' X H locs rls hH hG hle hS hL) (fun q => h2 _ _ _ (h.2 q) w p l e s m args below meth c' X H locs rls hH hG hle hS hL)
  · exact h.elim
def pi_ifgt (c1 c2 : pm_K) : pm_K := fun ls st S => match st with
  | .int x :: r => (0 < x → c1 ls r S) ∧ (¬ 0 < x → c2 ls r S)
  | _ => False
theorem ps_ifgt {c1 c2 : pm_K} {off : Int} {tgt : Nat} (hd : decode μ.2.1 pc = .ok (.ifCond .gt off, 3)) (ht : (pc : Int) + off = (tgt : Int)) (h1 : pm_S μ G d S0 Q tgt c1) (h2 : pm_S μ G d S0 Q (pc + 3) c2) : pm_S μ G d S0 Q pc (pi_ifgt c1 c2) := by
  intro ls st S h
  unfold pi_ifgt at h
  split at h
  · intro w p l e s m args below meth c' X H locs rls hH hG hle hS hL
    exact lv_if_gt X.2.2.2.1 X.2.2.2.2.1 hd ht (fun q => h1 _ _ _ (h.1 q) w p l e s m args below meth c' X H locs rls hH hG hle hS hL) (fun q => h2 _ _ _ (h.2 q) w p l e s m args below meth c' X H locs rls hH hG hle hS hL)
  · exact h.elim
def pi_ifle (c1 c2 : pm_K) : pm_K := fun ls st S => match st with
  | .int x :: r => (x ≤ 0 → c1 ls r S) ∧ (¬ x ≤ 0 → c2 ls r S)
  | _ => False
theorem ps_ifle {c1 c2 : pm_K} {off : Int} {tgt : Nat} (hd : decode μ.2.1 pc = .ok (.ifCond .le off, 3)) (ht : (pc : Int) + off = (tgt : Int)) (h1 : pm_S μ G d S0 Q tgt c1) (h2 : pm_S μ G d S0 Q (pc + 3) c2) : pm_S μ G d S0 Q pc (pi_ifle c1 c2) := by
  intro ls st S h
  unfold pi_ifle at h
  split at h
  · intro w p l e s m args below meth c' X H locs rls hH hG hle hS hL
    exact lv_if_le X.2.2.2.1 X.2.2.2.2.1 hd ht (fun q => h1 _ _ _ (h.1 q) w p l e s m args below meth c' X H locs rls hH hG hle hS hL) (fun q => h2 _ _ _ (h.2 q) w p l e s m args below meth c' X H locs rls hH hG hle hS hL)
  · exact h.elim
def pi_iceq (c1 c2 : pm_K) : pm_K := fun ls st S => match st with
  | .int y :: .int x :: r => (x = y → c1 ls r S) ∧ (¬ x = y → c2 ls r S)
  | _ => False
theorem ps_iceq {c1 c2 : pm_K} {off : Int} {tgt : Nat} (hd : decode μ.2.1 pc = .ok (.if_icmp .eq off, 3)) (ht : (pc : Int) + off = (tgt : Int)) (h1 : pm_S μ G d S0 Q tgt c1) (h2 : pm_S μ G d S0 Q (pc + 3) c2) : pm_S μ G d S0 Q pc (pi_iceq c1 c2) := by
  intro ls st S h
  unfold pi_iceq at h
  split at h
  · intro w p l e s m args below meth c' X H locs rls hH hG hle hS hL
    exact lv_icmp_eq X.2.2.2.1 X.2.2.2.2.1 hd ht (fun q => h1 _ _ _ (h.1 q) w p l e s m args below meth c' X H locs rls hH hG hle hS hL) (fun q => h2 _ _ _ (h.2 q) w p l e s m args below meth c' X H locs rls hH hG hle hS hL)
  · exact h.elim
def pi_icne (c1 c2 : pm_K) : pm_K := fun ls st S => match st with
  | .int y :: .int x :: r => (¬ x = y → c1 ls r S) ∧ (x = y → c2 ls r S)
  | _ => False
theorem ps_icne {c1 c2 : pm_K} {off : Int} {tgt : Nat} (hd : decode μ.2.1 pc = .ok (.if_icmp .ne off, 3)) (ht : (pc : Int) + off = (tgt : Int)) (h1 : pm_S μ G d S0 Q tgt c1) (h2 : pm_S μ G d S0 Q (pc + 3) c2) : pm_S μ G d S0 Q pc (pi_icne c1 c2) := by
  intro ls st S h
  unfold pi_icne at h
  split at h
  · intro w p l e s m args below meth c' X H locs rls hH hG hle hS hL
    exact lv_icmp_ne X.2.2.2.1 X.2.2.2.2.1 hd ht (fun q => h1 _ _ _ (h.1 q) w p l e s m args below meth c' X H locs rls hH hG hle hS hL) (fun q => h2 _ _ _ (h.2 q) w p l e s m args below meth c' X H locs rls hH hG hle hS hL)
  · exact h.elim
def pi_iclt (c1 c2 : pm_K) : pm_K := fun ls st S => match st with
  | .int y :: .int x :: r => (x < y → c1 ls r S) ∧ (¬ x < y → c2 ls r S)
  | _ => False
theorem ps_iclt {c1 c2 : pm_K} {off : Int} {tgt : Nat} (hd : decode μ.2.1 pc = .ok (.if_icmp .lt off, 3)) (ht : (pc : Int) + off = (tgt : Int)) (h1 : pm_S μ G d S0 Q tgt c1) (h2 : pm_S μ G d S0 Q (pc + 3) c2) : pm_S μ G d S0 Q pc (pi_iclt c1 c2) := by
  intro ls st S h
  unfold pi_iclt at h
  split at h
  · intro w p l e s m args below meth c' X H locs rls hH hG hle hS hL
    exact lv_icmp_lt X.2.2.2.1 X.2.2.2.2.1 hd ht (fun q => h1 _ _ _ (h.1 q) w p l e s m args below meth c' X H locs rls hH hG hle hS hL) (fun q => h2 _ _ _ (h.2 q) w p l e s m args below meth c' X H locs rls hH hG hle hS hL)
  · exact h.elim
def pi_icge (c1 c2 : pm_K) : pm_K := fun ls st S => match st with
  | .int y :: .int x :: r => (y ≤ x → c1 ls r S) ∧ (¬ y ≤ x → c2 ls r S)
  | _ => False
theorem ps_icge {c1 c2 : pm_K} {off : Int} {tgt : Nat} (hd : decode μ.2.1 pc = .ok (.if_icmp .ge off, 3)) (ht : (pc : Int) + off = (tgt : Int)) (h1 : pm_S μ G d S0 Q tgt c1) (h2 : pm_S μ G d S0 Q (pc + 3) c2) : pm_S μ G d S0 Q pc (pi_icge c1 c2) := by
  intro ls st S h
  unfold pi_icge at h
  split at h
  · intro w p l e s m args below meth c' X H locs rls hH hG hle hS hL
    exact lv_icmp_ge X.2.2.2.1 X.2.2.2.2.1 hd ht (fun q => h1 _ _ _ (h.1 q) w p l e s m args below meth c' X H locs rls hH hG hle hS hL) (fun q => h2 _ _ _ (h.2 q) w p l e s m args below meth c' X H locs rls hH hG hle hS hL)
  · exact h.elim
def pi_icgt (c1 c2 : pm_K) : pm_K := fun ls st S => match st with
  | .int y :: .int x :: r => (y < x → c1 ls r S) ∧ (¬ y < x → c2 ls r S)
  | _ => False
theorem ps_icgt {c1 c2 : pm_K} {off : Int} {tgt : Nat} (hd : decode μ.2.1 pc = .ok (.if_icmp .gt off, 3)) (ht : (pc : Int) + off = (tgt : Int)) (h1 : pm_S μ G d S0 Q tgt c1) (h2 : pm_S μ G d S0 Q (pc + 3) c2) : pm_S μ G d S0 Q pc (pi_icgt c1 c2) := by
  intro ls st S h
  unfold pi_icgt at h
  split at h
  · intro w p l e s m args below meth c' X H locs rls hH hG hle hS hL
    exact lv_icmp_gt X.2.2.2.1 X.2.2.2.2.1 hd ht (fun q => h1 _ _ _ (h.1 q) w p l e s m args below meth c' X H locs rls hH hG hle hS hL) (fun q => h2 _ _ _ (h.2 q) w p l e s m args below meth c' X H locs rls hH hG hle hS hL)
  · exact h.elim
def pi_icle (c1 c2 : pm_K) : pm_K := fun ls st S => match st with
  | .int y :: .int x :: r => (x ≤ y → c1 ls r S) ∧ (¬ x ≤ y → c2 ls r S)
  | _ => False
theorem ps_icle {c1 c2 : pm_K} {off : Int} {tgt : Nat} (hd : decode μ.2.1 pc = .ok (.if_icmp .le off, 3)) (ht : (pc : Int) + off = (tgt : Int)) (h1 : pm_S μ G d S0 Q tgt c1) (h2 : pm_S μ G d S0 Q (pc + 3) c2) : pm_S μ G d S0 Q pc (pi_icle c1 c2) := by
  intro ls st S h
  unfold pi_icle at h
  split at h
  · intro w p l e s m args below meth c' X H locs rls hH hG hle hS hL
    exact lv_icmp_le X.2.2.2.1 X.2.2.2.2.1 hd ht (fun q => h1 _ _ _ (h.1 q) w p l e s m args below meth c' X H locs rls hH hG hle hS hL) (fun q => h2 _ _ _ (h.2 q) w p l e s m args below meth c' X H locs rls hH hG hle hS hL)
  · exact h.elim
theorem ps_goto {off : Int} {tgt : Nat} (hd : decode μ.2.1 pc = .ok (.goto off, 3)) (ht : (pc : Int) + off = (tgt : Int)) (hc : pm_S μ G d S0 Q tgt c) : pm_S μ G d S0 Q pc c := by
  intro ls st S h w p l e s m args below meth c' X H locs rls hH hG hle hS hL
  exact lv_goto X.2.2.2.1 X.2.2.2.2.1 hd ht (hc _ _ _ h w p l e s m args below meth c' X H locs rls hH hG hle hS hL)
def pi_ifn (c1 c2 : pm_K) : pm_K := fun ls st S => match st with
  | .null :: r => c1 ls r S
  | .ref _ :: r => c2 ls r S
  | _ => False
theorem ps_ifnull {c1 c2 : pm_K} {off : Int} {tgt : Nat} (hd : decode μ.2.1 pc = .ok (.ifnull off, 3)) (ht : (pc : Int) + off = (tgt : Int)) (h1 : pm_S μ G d S0 Q tgt c1) (h2 : pm_S μ G d S0 Q (pc + 3) c2) : pm_S μ G d S0 Q pc (pi_ifn c1 c2) := by
  intro ls st S h
  unfold pi_ifn at h
  split at h
  · intro w p l e s m args below meth c' X H locs rls hH hG hle hS hL
    exact lv_ifnullN X.2.2.2.1 X.2.2.2.2.1 hd ht (h1 _ _ _ h w p l e s m args below meth c' X H locs rls hH hG hle hS hL)
  · intro w p l e s m args below meth c' X H locs rls hH hG hle hS hL
    exact lv_ifnull X.2.2.2.1 X.2.2.2.2.1 hd (h2 _ _ _ h w p l e s m args below meth c' X H locs rls hH hG hle hS hL)
  · exact h.elim
theorem ps_ifnonnull {c1 c2 : pm_K} {off : Int} {tgt : Nat} (hd : decode μ.2.1 pc = .ok (.ifnonnull off, 3)) (ht : (pc : Int) + off = (tgt : Int)) (h1 : pm_S μ G d S0 Q tgt c1) (h2 : pm_S μ G d S0 Q (pc + 3) c2) : pm_S μ G d S0 Q pc (pi_ifn c2 c1) := by
  intro ls st S h
  unfold pi_ifn at h
  split at h
  · intro w p l e s m args below meth c' X H locs rls hH hG hle hS hL
    exact lv_ifnonnullN X.2.2.2.1 X.2.2.2.2.1 hd (h2 _ _ _ h w p l e s m args below meth c' X H locs rls hH hG hle hS hL)
  · intro w p l e s m args below meth c' X H locs rls hH hG hle hS hL
    exact lv_ifnonnull X.2.2.2.1 X.2.2.2.2.1 hd ht (h1 _ _ _ h w p l e s m args below meth c' X H locs rls hH hG hle hS hL)
  · exact h.elim
/-- a switch, case by case -/
def pi_sw : List (Int32 × pm_K) → pm_K → pm_K
  | [], c => fun ls st S => match st with
    | .int _ :: r => c ls r S
    | _ => False
  | q :: qs, c => fun ls st S => match st with
    | .int x :: r => (x = q.1 → q.2 ls r S) ∧ (¬ x = q.1 → pi_sw qs c ls (.int x :: r) S)
    | _ => False
theorem pi_sw_spec {cd : pm_K} {x : Int32} {r : List Value} {ls : List (Option Value)} {S : pm_M} : ∀ (qs : List (Int32 × pm_K)), pi_sw qs cd ls (.int x :: r) S → (∃ q ∈ qs, x = q.1 ∧ q.2 ls r S) ∨ ((∀ q ∈ qs, ¬ x = q.1) ∧ cd ls r S)
  | [], h => Or.inr ⟨(fun _ hq => absurd hq List.not_mem_nil), h⟩
  | q :: qs, h => by
    by_cases hx : x = q.1
    · exact Or.inl ⟨q, List.mem_cons_self, hx, h.1 hx⟩
    · rcases pi_sw_spec qs (h.2 hx) with ⟨q', h1, h2⟩ | ⟨h1, h2⟩
      · exact Or.inl ⟨q', List.mem_cons_of_mem _ h1, h2⟩
      · refine Or.inr ⟨fun q' hq' => ?_, h2⟩
        rcases List.mem_cons.mp hq' with rfl | hq'
        · exact hx
        · exact h1 q' hq'
theorem pi_sw_int {cd : pm_K} {st : List Value} {ls : List (Option Value)} {S : pm_M} (qs : List (Int32 × pm_K)) (h : pi_sw qs cd ls st S) : ∃ x r, st = .int x :: r := by
  cases qs with
  | nil =>
    simp only [pi_sw] at h
    split at h
    · exact ⟨_, _, rfl⟩
    · exact h.elim
  | cons q qs =>
    simp only [pi_sw] at h
    split at h
    · exact ⟨_, _, rfl⟩
    · exact h.elim
def pm_swt : List Int → List Nat → Nat → Int → Nat
  | v :: vs, t :: ts, dt, x => if x = v then t else pm_swt vs ts dt x
  | _, _, dt, _ => dt
def pm_F2 (μ : pm_Mt) (G : pm_M → Prop) (d : Nat) (S0 : pm_M) (Q : Outcome → pm_M → Prop) : List Nat → List (Int32 × pm_K) → Prop
  | t :: ts, q :: qs => pm_S μ G d S0 Q t q.2 ∧ pm_F2 μ G d S0 Q ts qs
  | [], [] => True
  | _, _ => False
theorem pm_F2.nil : pm_F2 μ G d S0 Q [] [] := trivial
theorem pm_F2.cons {t : Nat} {v : Int32} {k : pm_K} {ts : List Nat} {qs : List (Int32 × pm_K)} (h : pm_S μ G d S0 Q t k) (hs : pm_F2 μ G d S0 Q ts qs) : pm_F2 μ G d S0 Q (t :: ts) ((v, k) :: qs) := ⟨h, hs⟩
theorem pm_sw_go {cd : pm_K} {dt : Nat} (h2 : pm_S μ G d S0 Q dt cd) {x : Int32} {r : List Value} {ls : List (Option Value)} {S : pm_M} : ∀ (qs : List (Int32 × pm_K)) (ts : List Nat), pm_F2 μ G d S0 Q ts qs → pi_sw qs cd ls (.int x :: r) S → pm_V μ G d S0 Q (pm_swt (qs.map fun q => q.1.toInt) ts dt x.toInt) ls r S
  | [], [], _, h => h2 _ _ _ h
  | q :: qs, t :: ts, hf, h => by
    simp only [List.map_cons, pm_swt]
    by_cases hx : x = q.1
    · rw [if_pos (by rw [hx])]
      exact hf.1 _ _ _ (h.1 hx)
    · rw [if_neg (fun e => hx (Int32.toInt_inj.mp e))]
      exact pm_sw_go h2 qs ts hf.2 (h.2 hx)
  | [], _ :: _, hf, _ => hf.elim
  | _ :: _, [], hf, _ => hf.elim
theorem pm_swt_out : ∀ (vs : List Int) (ts : List Nat) (dt : Nat) (x : Int), (∀ v ∈ vs, ¬ x = v) → pm_swt vs ts dt x = dt
  | [], _, _, _, _ => rfl
  | _ :: _, [], _, _, _ => rfl
  | v :: vs, t :: ts, dt, x, h => by
    simp only [pm_swt]
    rw [if_neg (h v List.mem_cons_self)]
    exact pm_swt_out vs ts dt x (fun v hv => h v (List.mem_cons_of_mem _ hv))
theorem ps_tsw {cd : pm_K} {dflt lo hi : Int} {offs : Array Int} {len dt : Nat} {qs : List (Int32 × pm_K)} (ts : List Nat) (hd : decode μ.2.1 pc = .ok (.tableswitch dflt lo hi offs, len)) (us : List Int32) (hus : qs.map (fun q => q.1) = us) (vs : List Int) (hvs : us.map (fun v => v.toInt) = vs)
    (hin : vs.all (fun v => decide (lo ≤ v) && decide (v ≤ hi)) = true) (hck : (List.range (hi - lo + 1).toNat).all (fun j => decide (offs.toList[j]? = some ((pm_swt vs ts dt (lo + (j : Int)) : Int) - (pc : Int)))) = true)
    (hdt : (pc : Int) + dflt = (dt : Int)) (h1 : pm_F2 μ G d S0 Q ts qs) (h2 : pm_S μ G d S0 Q dt cd) : pm_S μ G d S0 Q pc (pi_sw qs cd) := by
  intro ls st S h
  obtain ⟨x, r, rfl⟩ := pi_sw_int qs h
  have hv : qs.map (fun q => q.1.toInt) = vs := by
    rw [← hvs, ← hus, List.map_map]
    rfl
  have hgo := pm_sw_go h2 qs ts h1 h
  rw [hv] at hgo
  intro w p l e s m args below meth c' X H locs rls hH hG hle hS hL
  by_cases hr : ¬ x.toInt < lo ∧ ¬ hi < x.toInt
  · have hj : (x.toInt - lo).toNat < (hi - lo + 1).toNat := by omega
    have e1 := of_decide_eq_true (List.all_eq_true.mp hck _ (List.mem_range.mpr hj))
    rw [show lo + ((x.toInt - lo).toNat : Int) = x.toInt by omega] at e1
    refine lv_tableIn (tgt := pm_swt vs ts dt x.toInt) X.2.2.2.1 X.2.2.2.2.1 hd hr.1 hr.2 (off := (pm_swt vs ts dt x.toInt : Int) - (pc : Int)) ?_ (by omega) (hgo w p l e s m args below meth c' X H locs rls hH hG hle hS hL)
    rw [← Array.getElem?_toList]
    exact e1
  · rw [pm_swt_out vs ts dt x.toInt (fun v hvm e => by
      have q := List.all_eq_true.mp hin v hvm
      simp only [Bool.and_eq_true, decide_eq_true_eq] at q
      omega)] at hgo
    exact lv_tableOut (tgt := dt) X.2.2.2.1 X.2.2.2.2.1 hd (by omega) hdt (hgo w p l e s m args below meth c' X H locs rls hH hG hle hS hL)
end PS
