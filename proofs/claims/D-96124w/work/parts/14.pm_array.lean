/-! ===== pi_, ps_: arrays, new ===== -/
set_option maxRecDepth 100000
section PA
variable {μ : pm_Mt} {G : pm_M → Prop} {d : Nat} {S0 : pm_M} {Q : Outcome → pm_M → Prop} {pc : Nat} {c : pm_K}
def pi_aldI (pre : pm_M → Nat → Prop) (len : pm_M → Nat → Nat) (c : pm_K) : pm_K := fun ls st S => match st with
  | .int i :: .ref a :: r => pre S a ∧ vp_in i (len S a) ∧ c ls (.int (pm_I S a i.toNatClampNeg) :: r) S
  | _ => False
def pi_aldL (pre : pm_M → Nat → Prop) (len : pm_M → Nat → Nat) (c : pm_K) : pm_K := fun ls st S => match st with
  | .int i :: .ref a :: r => pre S a ∧ vp_in i (len S a) ∧ c ls (.long (pm_L S a i.toNatClampNeg) :: r) S
  | _ => False
def pi_aldR (pre : pm_M → Nat → Prop) (len : pm_M → Nat → Nat) (c : pm_K) : pm_K := fun ls st S => match st with
  | .int i :: .ref a :: r => pre S a ∧ vp_in i (len S a) ∧ ∃ x, pm_P S a i.toNatClampNeg = some x ∧ c ls (.ref x :: r) S
  | _ => False
def pi_aldN (pre : pm_M → Nat → Prop) (len : pm_M → Nat → Nat) (c : pm_K) : pm_K := fun ls st S => match st with
  | .int i :: .ref a :: r => pre S a ∧ vp_in i (len S a) ∧ (pm_P S a i.toNatClampNeg = none → c ls (.null :: r) S) ∧ (∀ x, pm_P S a i.toNatClampNeg = some x → c ls (.ref x :: r) S)
  | _ => False
def pi_aldG (pre : pm_M → Nat → Prop) (len : pm_M → Nat → Nat) (f : Nat → Nat → Nat) (c : pm_K) : pm_K := fun ls st S => match st with
  | .int i :: .ref a :: r => pre S a ∧ vp_in i (len S a) ∧ c ls (.ref (f a i.toNatClampNeg) :: r) S
  | _ => False
theorem ps_ia {pre : pm_M → Nat → Prop} {len : pm_M → Nat → Nat} (hd : decode μ.2.1 pc = .ok (.iaload, 1)) (hg : ∀ S a, G S → pre S a → pm_hd S a = (100, len S a)) (hc : pm_S μ G d S0 Q (pc + 1) c) : pm_S μ G d S0 Q pc (pi_aldI pre len c) := by
  intro ls st S h
  unfold pi_aldI at h
  split at h
  · rename_i i a r
    intro w p l e s m args below meth c' X H locs rls hH hG hle hS hL
    obtain ⟨h1, h2, h3⟩ := hH.arr (t := 0) (hg S a hG h.1)
    exact va_iald X.2.2.2.1 X.2.2.2.2.1 (pm_KX.K X.1 X.2.1) hH.1 a 0 h3 (pm_tys_at w (by decide)) h.2.1 hd (hc _ _ _ h.2.2 w p l e s m args below meth c' X H locs rls hH hG hle hS hL)
  · exact h.elim
theorem ps_ba {pre : pm_M → Nat → Prop} {len : pm_M → Nat → Nat} (hd : decode μ.2.1 pc = .ok (.baload, 1)) (hg : ∀ S a, G S → pre S a → pm_hd S a = (102, len S a)) (hc : pm_S μ G d S0 Q (pc + 1) c) : pm_S μ G d S0 Q pc (pi_aldI pre len c) := by
  intro ls st S h
  unfold pi_aldI at h
  split at h
  · rename_i i a r
    intro w p l e s m args below meth c' X H locs rls hH hG hle hS hL
    obtain ⟨h1, h2, h3⟩ := hH.arr (t := 2) (hg S a hG h.1)
    exact va_bald X.2.2.2.1 X.2.2.2.2.1 (pm_KX.K X.1 X.2.1) hH.1 a 2 h3 (pm_tys_at w (by decide)) h.2.1 hd (hc _ _ _ h.2.2 w p l e s m args below meth c' X H locs rls hH hG hle hS hL)
  · exact h.elim
theorem ps_za {pre : pm_M → Nat → Prop} {len : pm_M → Nat → Nat} (hd : decode μ.2.1 pc = .ok (.baload, 1)) (hg : ∀ S a, G S → pre S a → pm_hd S a = (104, len S a)) (hc : pm_S μ G d S0 Q (pc + 1) c) : pm_S μ G d S0 Q pc (pi_aldI pre len c) := by
  intro ls st S h
  unfold pi_aldI at h
  split at h
  · rename_i i a r
    intro w p l e s m args below meth c' X H locs rls hH hG hle hS hL
    obtain ⟨h1, h2, h3⟩ := hH.arr (t := 4) (hg S a hG h.1)
    exact va_zald X.2.2.2.1 X.2.2.2.2.1 (pm_KX.K X.1 X.2.1) hH.1 a 4 h3 (pm_tys_at w (by decide)) h.2.1 hd (hc _ _ _ h.2.2 w p l e s m args below meth c' X H locs rls hH hG hle hS hL)
  · exact h.elim
theorem ps_sa {pre : pm_M → Nat → Prop} {len : pm_M → Nat → Nat} (hd : decode μ.2.1 pc = .ok (.saload, 1)) (hg : ∀ S a, G S → pre S a → pm_hd S a = (103, len S a)) (hc : pm_S μ G d S0 Q (pc + 1) c) : pm_S μ G d S0 Q pc (pi_aldI pre len c) := by
  intro ls st S h
  unfold pi_aldI at h
  split at h
  · rename_i i a r
    intro w p l e s m args below meth c' X H locs rls hH hG hle hS hL
    obtain ⟨h1, h2, h3⟩ := hH.arr (t := 3) (hg S a hG h.1)
    exact va_sald X.2.2.2.1 X.2.2.2.2.1 (pm_KX.K X.1 X.2.1) hH.1 a 3 h3 (pm_tys_at w (by decide)) h.2.1 hd (hc _ _ _ h.2.2 w p l e s m args below meth c' X H locs rls hH hG hle hS hL)
  · exact h.elim
theorem ps_la {pre : pm_M → Nat → Prop} {len : pm_M → Nat → Nat} (hd : decode μ.2.1 pc = .ok (.laload, 1)) (hg : ∀ S a, G S → pre S a → pm_hd S a = (101, len S a)) (hc : pm_S μ G d S0 Q (pc + 1) c) : pm_S μ G d S0 Q pc (pi_aldL pre len c) := by
  intro ls st S h
  unfold pi_aldL at h
  split at h
  · rename_i i a r
    intro w p l e s m args below meth c' X H locs rls hH hG hle hS hL
    obtain ⟨h1, h2, h3⟩ := hH.arr (t := 1) (hg S a hG h.1)
    exact va_lald X.2.2.2.1 X.2.2.2.2.1 (pm_KX.K X.1 X.2.1) hH.1 a 1 h3 (pm_tys_at w (by decide)) h.2.1 hd (hc _ _ _ h.2.2 w p l e s m args below meth c' X H locs rls hH hG hle hS hL)
  · exact h.elim
theorem pm_acR {w : pm_W} {S : pm_M} {a t : Nat} (h : 5 ≤ t) : pm_ac w S a t = .inr (.inr (.inr (.inr (fun i => (pm_P S a i).map (pm_f w))))) := by
  simp only [pm_ac]
  rw [if_neg (by omega), if_neg (by omega)]
theorem pm_tyR {t : Nat} (h : 5 ≤ t) : ∃ C, pm_ty t = .object C := by
  match t, h with
  | 5, _ => exact ⟨_, rfl⟩
  | 6, _ => exact ⟨_, rfl⟩
  | 7, _ => exact ⟨_, rfl⟩
  | 8, _ => exact ⟨_, rfl⟩
  | 9, _ => exact ⟨_, rfl⟩
  | 10, _ => exact ⟨_, rfl⟩
  | n + 11, _ => exact ⟨_, rfl⟩
theorem ps_aldR {pre : pm_M → Nat → Prop} {len : pm_M → Nat → Nat} (t : Nat) (ht : 5 ≤ t) (ht2 : t < 12) (hd : decode μ.2.1 pc = .ok (.aaload, 1)) (hg : ∀ S a, G S → pre S a → pm_hd S a = (100 + t, len S a)) (hc : pm_S μ G d S0 Q (pc + 1) c) : pm_S μ G d S0 Q pc (pi_aldR pre len c) := by
  intro ls st S h
  unfold pi_aldR at h
  split at h
  · rename_i i a r
    intro w p l e s m args below meth c' X H locs rls hH hG hle hS hL
    obtain ⟨h1, h2, h3⟩ := hH.arr (t := t) (hg S a hG h.1)
    rw [pm_acR ht] at h3
    obtain ⟨C, hC⟩ := pm_tyR ht
    have hty := pm_tys_at w ht2
    rw [hC] at hty
    refine va_aldq X.2.2.2.1 X.2.2.2.2.1 (pm_KX.K X.1 X.2.1) hH.1 a t h3 hty h.2.1 hd ?_
    obtain ⟨h0, hi, x, hx, hh⟩ := h
    rw [show va_rf ((pm_P S a i.toNatClampNeg).map (pm_f w)) = .ref (pm_f w x) by rw [hx]; rfl]
    exact hc _ _ _ hh w p l e s m args below meth c' X H locs rls hH hG hle hS hL
  · exact h.elim
theorem ps_aldN {pre : pm_M → Nat → Prop} {len : pm_M → Nat → Nat} (t : Nat) (ht : 5 ≤ t) (ht2 : t < 12) (hd : decode μ.2.1 pc = .ok (.aaload, 1)) (hg : ∀ S a, G S → pre S a → pm_hd S a = (100 + t, len S a)) (hc : pm_S μ G d S0 Q (pc + 1) c) : pm_S μ G d S0 Q pc (pi_aldN pre len c) := by
  intro ls st S h
  unfold pi_aldN at h
  split at h
  · rename_i i a r
    intro w p l e s m args below meth c' X H locs rls hH hG hle hS hL
    obtain ⟨h1, h2, h3⟩ := hH.arr (t := t) (hg S a hG h.1)
    rw [pm_acR ht] at h3
    obtain ⟨C, hC⟩ := pm_tyR ht
    have hty := pm_tys_at w ht2
    rw [hC] at hty
    refine va_aldq X.2.2.2.1 X.2.2.2.2.1 (pm_KX.K X.1 X.2.1) hH.1 a t h3 hty h.2.1 hd ?_
    cases hx : pm_P S a i.toNatClampNeg with
    | none => exact hc _ _ _ (h.2.2.1 hx) w p l e s m args below meth c' X H locs rls hH hG hle hS hL
    | some x => exact hc _ _ _ (h.2.2.2 x hx) w p l e s m args below meth c' X H locs rls hH hG hle hS hL
  · exact h.elim
theorem ps_aldG {pre : pm_M → Nat → Prop} {len : pm_M → Nat → Nat} {f : Nat → Nat → Nat} (t : Nat) (ht : 5 ≤ t) (ht2 : t < 12) (hd : decode μ.2.1 pc = .ok (.aaload, 1)) (hg : ∀ S a, G S → pre S a → pm_hd S a = (100 + t, len S a)) (hf : ∀ S a i, G S → pre S a → i < len S a → pm_P S a i = some (f a i)) (hc : pm_S μ G d S0 Q (pc + 1) c) : pm_S μ G d S0 Q pc (pi_aldG pre len f c) := by
  intro ls st S h
  unfold pi_aldG at h
  split at h
  · rename_i i a r
    intro w p l e s m args below meth c' X H locs rls hH hG hle hS hL
    obtain ⟨h1, h2, h3⟩ := hH.arr (t := t) (hg S a hG h.1)
    rw [pm_acR ht] at h3
    obtain ⟨C, hC⟩ := pm_tyR ht
    have hty := pm_tys_at w ht2
    rw [hC] at hty
    refine va_aldq X.2.2.2.1 X.2.2.2.2.1 (pm_KX.K X.1 X.2.1) hH.1 a t h3 hty h.2.1 hd ?_
    rw [show va_rf ((pm_P S a i.toNatClampNeg).map (pm_f w)) = .ref (pm_f w (f a i.toNatClampNeg)) by rw [hf S a _ hG h.1 (Nat.not_le.mp fun q => h.2.1 (Or.inr q))]; rfl]
    exact hc _ _ _ h.2.2 w p l e s m args below meth c' X H locs rls hH hG hle hS hL
  · exact h.elim
def pi_astI (pre : pm_M → Nat → Prop) (len : pm_M → Nat → Nat) (nar : Int32 → Int32) (c : pm_K) : pm_K := fun ls st S => match st with
  | .int x :: .int i :: .ref a :: r => pre S a ∧ vp_in i (len S a) ∧ c ls r (pm_sI S a (upd (pm_I S a) i.toNatClampNeg (nar x)))
  | _ => False
def pi_astL (pre : pm_M → Nat → Prop) (len : pm_M → Nat → Nat) (c : pm_K) : pm_K := fun ls st S => match st with
  | .long x :: .int i :: .ref a :: r => pre S a ∧ vp_in i (len S a) ∧ c ls r (pm_sL S a (vp_updL (pm_L S a) i.toNatClampNeg x))
  | _ => False
def pi_astP (G : pm_M → Prop) (pre : pm_M → Nat → Prop) (len : pm_M → Nat → Nat) (el : pm_M → Nat → Prop) (c : pm_K) : pm_K := fun ls st S => match st with
  | .ref x :: .int i :: .ref a :: r => pre S a ∧ vp_in i (len S a) ∧ el S x ∧ (G S → G (pm_sP S a (va_up (pm_P S a) i.toNatClampNeg (some x)))) ∧ c ls r (pm_sP S a (va_up (pm_P S a) i.toNatClampNeg (some x)))
  | .null :: .int i :: .ref a :: r => pre S a ∧ vp_in i (len S a) ∧ (G S → G (pm_sP S a (va_up (pm_P S a) i.toNatClampNeg none))) ∧ c ls r (pm_sP S a (va_up (pm_P S a) i.toNatClampNeg none))
  | _ => False
theorem pm_ceA {w : pm_W} {S S' : pm_M} {a t n : Nat} (hh : pm_hd S a = (100 + t, n)) (h : pm_hd S' a = pm_hd S a) {x : (Nat → Int32) ⊕ (Nat → Int64) ⊕ (Nat → UInt32) ⊕ (Nat → UInt64) ⊕ (Nat → Option Nat)} (hx : pm_ac w S' a t = x) : pm_ce w S' a = .inl (pm_tc w t, n, x) := by
  simp only [pm_ce, h, hh]
  rw [if_neg (by omega), show 100 + t - 100 = t by omega, hx]
theorem pm_ws_other {w : pm_W} {S S' : pm_M} {a : Nat} (hh : ∀ x, pm_hd S' x = pm_hd S x) (hI : ∀ x, x ≠ a → pm_I S' x = pm_I S x) (hL : ∀ x, x ≠ a → pm_L S' x = pm_L S x) (hP : ∀ x, x ≠ a → pm_P S' x = pm_P S x) : ∀ x, x ≠ a → pm_ce w S' x = pm_ce w S x := fun x hx => pm_ce_congr (hh x) (hI x hx) (hL x hx) (hP x hx)
theorem ps_iast {pre : pm_M → Nat → Prop} {len : pm_M → Nat → Nat} (hd : decode μ.2.1 pc = .ok (.iastore, 1)) (hg : ∀ S a, G S → pre S a → pm_hd S a = (100, len S a)) (hGs : pm_Gs G) (hc : pm_S μ G d S0 Q (pc + 1) c) : pm_S μ G d S0 Q pc (pi_astI pre len (fun x => x) c) := by
  intro ls st S h
  unfold pi_astI at h
  split at h
  · rename_i v i a r
    intro w p l e s m args below meth c' X H locs rls hH hG hle hS hL
    obtain ⟨h1, h2, h3⟩ := hH.arr (t := 0) (hg S a hG h.1)
    refine va_iast X.2.2.2.1 X.2.2.2.2.1 (pm_KX.K X.1 X.2.1) hH.1 (pm_ws_D w S) hS a 0 h3 (pm_tys_at w (by decide)) h.2.1 hd fun H1 locs1 hP1 _ hS1 => ?_
    have he := pm_ceA (w := w) (S := S) (S' := pm_sI S a (upd (pm_I S a) i.toNatClampNeg v)) (a := a) (t := 0) (hg S a hG h.1) rfl (x := .inl (upd (pm_I S a) i.toNatClampNeg v)) (by simp [pm_ac, pm_I, pm_L, pm_sI, pm_sL])
    rw [h2] at hP1
    have hP2 : va_P (pm_D w) pm_cl (pm_ws w (pm_sI S a (upd (pm_I S a) i.toNatClampNeg v))) H1 := by
      rw [pm_ws_set (S := S) (S' := pm_sI S a (upd (pm_I S a) i.toNatClampNeg v)) (a := a) rfl (fun x hx => pm_ce_congr rfl (by simp [pm_I, pm_sI, pm_sL, pm_sP, hx]) (by simp [pm_L, pm_sI, pm_sL, pm_sP, hx]) (by simp [pm_P, pm_sI, pm_sL, pm_sP, hx])) he]
      exact hP1
    refine pm_sz (S := pm_sI S a (upd (pm_I S a) i.toNatClampNeg v)) (S0 := S0) hP2 hS1 X.2.2.1 hle.1 fun hz => ?_
    exact hc _ _ _ h.2.2 w p l e s m args below meth c' X H1 locs1 rls (hH.sI h1 he hP1 hz) (hGs.1 _ _ _ hG) hle hS1 hL
  · exact h.elim
theorem ps_bast {pre : pm_M → Nat → Prop} {len : pm_M → Nat → Nat} (hd : decode μ.2.1 pc = .ok (.bastore, 1)) (hg : ∀ S a, G S → pre S a → pm_hd S a = (102, len S a)) (hGs : pm_Gs G) (hc : pm_S μ G d S0 Q (pc + 1) c) : pm_S μ G d S0 Q pc (pi_astI pre len (vp_nar .byte) c) := by
  intro ls st S h
  unfold pi_astI at h
  split at h
  · rename_i v i a r
    intro w p l e s m args below meth c' X H locs rls hH hG hle hS hL
    obtain ⟨h1, h2, h3⟩ := hH.arr (t := 2) (hg S a hG h.1)
    refine va_bast X.2.2.2.1 X.2.2.2.2.1 (pm_KX.K X.1 X.2.1) hH.1 (pm_ws_D w S) hS a 2 h3 (pm_tys_at w (by decide)) h.2.1 hd fun H1 locs1 hP1 _ hS1 => ?_
    have he := pm_ceA (w := w) (S := S) (S' := pm_sI S a (upd (pm_I S a) i.toNatClampNeg (vp_nar .byte v))) (a := a) (t := 2) (hg S a hG h.1) rfl (x := .inl (upd (pm_I S a) i.toNatClampNeg (vp_nar .byte v))) (by simp [pm_ac, pm_I, pm_L, pm_sI, pm_sL])
    rw [h2] at hP1
    have hP2 : va_P (pm_D w) pm_cl (pm_ws w (pm_sI S a (upd (pm_I S a) i.toNatClampNeg (vp_nar .byte v)))) H1 := by
      rw [pm_ws_set (S := S) (S' := pm_sI S a (upd (pm_I S a) i.toNatClampNeg (vp_nar .byte v))) (a := a) rfl (fun x hx => pm_ce_congr rfl (by simp [pm_I, pm_sI, pm_sL, pm_sP, hx]) (by simp [pm_L, pm_sI, pm_sL, pm_sP, hx]) (by simp [pm_P, pm_sI, pm_sL, pm_sP, hx])) he]
      exact hP1
    refine pm_sz (S := pm_sI S a (upd (pm_I S a) i.toNatClampNeg (vp_nar .byte v))) (S0 := S0) hP2 hS1 X.2.2.1 hle.1 fun hz => ?_
    exact hc _ _ _ h.2.2 w p l e s m args below meth c' X H1 locs1 rls (hH.sI h1 he hP1 hz) (hGs.1 _ _ _ hG) hle hS1 hL
  · exact h.elim
theorem ps_zast {pre : pm_M → Nat → Prop} {len : pm_M → Nat → Nat} (hd : decode μ.2.1 pc = .ok (.bastore, 1)) (hg : ∀ S a, G S → pre S a → pm_hd S a = (104, len S a)) (hGs : pm_Gs G) (hc : pm_S μ G d S0 Q (pc + 1) c) : pm_S μ G d S0 Q pc (pi_astI pre len (vp_nar .boolean) c) := by
  intro ls st S h
  unfold pi_astI at h
  split at h
  · rename_i v i a r
    intro w p l e s m args below meth c' X H locs rls hH hG hle hS hL
    obtain ⟨h1, h2, h3⟩ := hH.arr (t := 4) (hg S a hG h.1)
    refine va_zast X.2.2.2.1 X.2.2.2.2.1 (pm_KX.K X.1 X.2.1) hH.1 (pm_ws_D w S) hS a 4 h3 (pm_tys_at w (by decide)) h.2.1 hd fun H1 locs1 hP1 _ hS1 => ?_
    have he := pm_ceA (w := w) (S := S) (S' := pm_sI S a (upd (pm_I S a) i.toNatClampNeg (vp_nar .boolean v))) (a := a) (t := 4) (hg S a hG h.1) rfl (x := .inl (upd (pm_I S a) i.toNatClampNeg (vp_nar .boolean v))) (by simp [pm_ac, pm_I, pm_L, pm_sI, pm_sL])
    rw [h2] at hP1
    have hP2 : va_P (pm_D w) pm_cl (pm_ws w (pm_sI S a (upd (pm_I S a) i.toNatClampNeg (vp_nar .boolean v)))) H1 := by
      rw [pm_ws_set (S := S) (S' := pm_sI S a (upd (pm_I S a) i.toNatClampNeg (vp_nar .boolean v))) (a := a) rfl (fun x hx => pm_ce_congr rfl (by simp [pm_I, pm_sI, pm_sL, pm_sP, hx]) (by simp [pm_L, pm_sI, pm_sL, pm_sP, hx]) (by simp [pm_P, pm_sI, pm_sL, pm_sP, hx])) he]
      exact hP1
    refine pm_sz (S := pm_sI S a (upd (pm_I S a) i.toNatClampNeg (vp_nar .boolean v))) (S0 := S0) hP2 hS1 X.2.2.1 hle.1 fun hz => ?_
    exact hc _ _ _ h.2.2 w p l e s m args below meth c' X H1 locs1 rls (hH.sI h1 he hP1 hz) (hGs.1 _ _ _ hG) hle hS1 hL
  · exact h.elim
theorem ps_sast {pre : pm_M → Nat → Prop} {len : pm_M → Nat → Nat} (hd : decode μ.2.1 pc = .ok (.sastore, 1)) (hg : ∀ S a, G S → pre S a → pm_hd S a = (103, len S a)) (hGs : pm_Gs G) (hc : pm_S μ G d S0 Q (pc + 1) c) : pm_S μ G d S0 Q pc (pi_astI pre len (vp_nar .short) c) := by
  intro ls st S h
  unfold pi_astI at h
  split at h
  · rename_i v i a r
    intro w p l e s m args below meth c' X H locs rls hH hG hle hS hL
    obtain ⟨h1, h2, h3⟩ := hH.arr (t := 3) (hg S a hG h.1)
    refine va_sast X.2.2.2.1 X.2.2.2.2.1 (pm_KX.K X.1 X.2.1) hH.1 (pm_ws_D w S) hS a 3 h3 (pm_tys_at w (by decide)) h.2.1 hd fun H1 locs1 hP1 _ hS1 => ?_
    have he := pm_ceA (w := w) (S := S) (S' := pm_sI S a (upd (pm_I S a) i.toNatClampNeg (vp_nar .short v))) (a := a) (t := 3) (hg S a hG h.1) rfl (x := .inl (upd (pm_I S a) i.toNatClampNeg (vp_nar .short v))) (by simp [pm_ac, pm_I, pm_L, pm_sI, pm_sL])
    rw [h2] at hP1
    have hP2 : va_P (pm_D w) pm_cl (pm_ws w (pm_sI S a (upd (pm_I S a) i.toNatClampNeg (vp_nar .short v)))) H1 := by
      rw [pm_ws_set (S := S) (S' := pm_sI S a (upd (pm_I S a) i.toNatClampNeg (vp_nar .short v))) (a := a) rfl (fun x hx => pm_ce_congr rfl (by simp [pm_I, pm_sI, pm_sL, pm_sP, hx]) (by simp [pm_L, pm_sI, pm_sL, pm_sP, hx]) (by simp [pm_P, pm_sI, pm_sL, pm_sP, hx])) he]
      exact hP1
    refine pm_sz (S := pm_sI S a (upd (pm_I S a) i.toNatClampNeg (vp_nar .short v))) (S0 := S0) hP2 hS1 X.2.2.1 hle.1 fun hz => ?_
    exact hc _ _ _ h.2.2 w p l e s m args below meth c' X H1 locs1 rls (hH.sI h1 he hP1 hz) (hGs.1 _ _ _ hG) hle hS1 hL
  · exact h.elim
theorem ps_last {pre : pm_M → Nat → Prop} {len : pm_M → Nat → Nat} (hd : decode μ.2.1 pc = .ok (.lastore, 1)) (hg : ∀ S a, G S → pre S a → pm_hd S a = (101, len S a)) (hGs : pm_Gs G) (hc : pm_S μ G d S0 Q (pc + 1) c) : pm_S μ G d S0 Q pc (pi_astL pre len c) := by
  intro ls st S h
  unfold pi_astL at h
  split at h
  · rename_i v i a r
    intro w p l e s m args below meth c' X H locs rls hH hG hle hS hL
    obtain ⟨h1, h2, h3⟩ := hH.arr (t := 1) (hg S a hG h.1)
    refine va_last X.2.2.2.1 X.2.2.2.2.1 (pm_KX.K X.1 X.2.1) hH.1 (pm_ws_D w S) hS a 1 h3 (pm_tys_at w (by decide)) h.2.1 hd fun H1 locs1 hP1 _ hS1 => ?_
    have he := pm_ceA (w := w) (S := S) (S' := pm_sL S a (vp_updL (pm_L S a) i.toNatClampNeg v)) (a := a) (t := 1) (hg S a hG h.1) rfl (x := .inr (.inl (vp_updL (pm_L S a) i.toNatClampNeg v))) (by simp [pm_ac, pm_I, pm_L, pm_sI, pm_sL])
    rw [h2] at hP1
    have hP2 : va_P (pm_D w) pm_cl (pm_ws w (pm_sL S a (vp_updL (pm_L S a) i.toNatClampNeg v))) H1 := by
      rw [pm_ws_set (S := S) (S' := pm_sL S a (vp_updL (pm_L S a) i.toNatClampNeg v)) (a := a) rfl (fun x hx => pm_ce_congr rfl (by simp [pm_I, pm_sI, pm_sL, pm_sP, hx]) (by simp [pm_L, pm_sI, pm_sL, pm_sP, hx]) (by simp [pm_P, pm_sI, pm_sL, pm_sP, hx])) he]
      exact hP1
    refine pm_sz (S := pm_sL S a (vp_updL (pm_L S a) i.toNatClampNeg v)) (S0 := S0) hP2 hS1 X.2.2.1 hle.1 fun hz => ?_
    exact hc _ _ _ h.2.2 w p l e s m args below meth c' X H1 locs1 rls (hH.sL he hP1 hz) (hGs.2.1 _ _ _ hG) hle hS1 hL
  · exact h.elim
theorem pm_upmap {w : pm_W} {f : Nat → Option Nat} {k : Nat} {v : Option Nat} : (fun i => (va_up f k v i).map (pm_f w)) = va_up (fun i => (f i).map (pm_f w)) k (v.map (pm_f w)) := by
  funext i
  by_cases h : i = k
  · simp [va_up, h]
  · simp [va_up, h]
theorem ps_aast {pre : pm_M → Nat → Prop} {len : pm_M → Nat → Nat} {el : pm_M → Nat → Prop} (t : Nat) (ht : 5 ≤ t) (ht2 : t < 12) {E : String} (hE : pm_ty t = .object E) (hd : decode μ.2.1 pc = .ok (.aastore, 1)) (hg : ∀ S a, G S → pre S a → pm_hd S a = (100 + t, len S a))
    (hel : ∀ S x, G S → el S x → ∃ (ci : Nat) (r : vw_C), (pm_hd S x).1 = ci ∧ ci < 50 ∧ pm_cl[ci]? = some r ∧ (r.1 = E ∨ Cond.castable r.1 E ∈ lw_tbl)) (hc : pm_S μ G d S0 Q (pc + 1) c) : pm_S μ G d S0 Q pc (pi_astP G pre len el c) := by
  intro ls st S h
  unfold pi_astP at h
  split at h
  · rename_i v i a r
    intro w p l e s m args below meth c' X H locs rls hH hG hle hS hL
    obtain ⟨h1, h2, h3⟩ := hH.arr (t := t) (hg S a hG h.1)
    rw [pm_acR ht] at h3
    have hty := pm_tys_at w ht2
    rw [hE] at hty
    obtain ⟨ci, rr, e1, e2, e3, e4⟩ := hel S v hG h.2.2.1
    obtain ⟨g1, g2, g3⟩ := hH.obj e1 e2
    have key : ∀ (H1 : Heap) (locs1 : List Loc), va_P (pm_D w) pm_cl ((pm_ws w S).set a (pm_f w a, .inl (pm_tc w t, len S a, .inr (.inr (.inr (.inr (va_up (fun i => (pm_P S a i).map (pm_f w)) i.toNatClampNeg (some (pm_f w v))))))))) H1 → va_S (pm_A w) s.heap H1 locs1 → W p l e (pm_R d S0) s m args below meth c' H1 locs1 (pm_n S - pm_n S0) (pm_sl S - pm_sl S0) (pm_Z w G S0 Q below s) (F0 m (pc + 1) rls (r.map (pm_v w))) := by
      intro H1 locs1 hP1 hS1
      have he := pm_ceA (w := w) (S := S) (S' := pm_sP S a (va_up (pm_P S a) i.toNatClampNeg (some v))) (a := a) (t := t) (hg S a hG h.1) rfl (x := .inr (.inr (.inr (.inr (va_up (fun i => (pm_P S a i).map (pm_f w)) i.toNatClampNeg (some (pm_f w v))))))) (by rw [pm_acR ht]; simp [pm_P, pm_sP, pm_upmap])
      rw [h2] at hP1
      have hP2 : va_P (pm_D w) pm_cl (pm_ws w (pm_sP S a (va_up (pm_P S a) i.toNatClampNeg (some v)))) H1 := by
        rw [pm_ws_set (S := S) (S' := pm_sP S a (va_up (pm_P S a) i.toNatClampNeg (some v))) (a := a) rfl (fun x hx => pm_ce_congr rfl rfl rfl (by simp [pm_P, pm_sP, hx])) he]
        exact hP1
      refine pm_sz (S := pm_sP S a (va_up (pm_P S a) i.toNatClampNeg (some v))) (S0 := S0) hP2 hS1 X.2.2.1 hle.1 fun hz => ?_
      exact hc _ _ _ h.2.2.2.2 w p l e s m args below meth c' X H1 locs1 rls (hH.sP he hP1 hz) (h.2.2.2.1 hG) hle hS1 hL
    rcases e4 with e4 | e4
    · rw [← e4] at hty
      exact va_astq X.2.2.2.1 X.2.2.2.2.1 (pm_KX.K X.1 X.2.1) hH.1 (pm_ws_D w S) hS a t v ci h3 hty g3 e3 h.2.1 hd fun H1 locs1 hP1 _ hS1 => key H1 locs1 hP1 hS1
    · exact va_astqO X.2.2.2.1 X.2.2.2.2.1 (pm_KX.K X.1 X.2.1) hH.1 (pm_ws_D w S) hS a t v ci h3 hty (pm_nC X.1 X.2.1 e4) g3 e3 h.2.1 hd fun H1 locs1 hP1 _ hS1 => key H1 locs1 hP1 hS1
  · rename_i i a r
    intro w p l e s m args below meth c' X H locs rls hH hG hle hS hL
    obtain ⟨h1, h2, h3⟩ := hH.arr (t := t) (hg S a hG h.1)
    rw [pm_acR ht] at h3
    have hty := pm_tys_at w ht2
    rw [hE] at hty
    refine va_astqN X.2.2.2.1 X.2.2.2.2.1 (pm_KX.K X.1 X.2.1) hH.1 (pm_ws_D w S) hS a t h3 hty h.2.1 hd fun H1 locs1 hP1 _ hS1 => ?_
    have he := pm_ceA (w := w) (S := S) (S' := pm_sP S a (va_up (pm_P S a) i.toNatClampNeg none)) (a := a) (t := t) (hg S a hG h.1) rfl (x := .inr (.inr (.inr (.inr (va_up (fun i => (pm_P S a i).map (pm_f w)) i.toNatClampNeg none))))) (by rw [pm_acR ht]; simp [pm_P, pm_sP, pm_upmap])
    rw [h2] at hP1
    have hP2 : va_P (pm_D w) pm_cl (pm_ws w (pm_sP S a (va_up (pm_P S a) i.toNatClampNeg none))) H1 := by
      rw [pm_ws_set (S := S) (S' := pm_sP S a (va_up (pm_P S a) i.toNatClampNeg none)) (a := a) rfl (fun x hx => pm_ce_congr rfl rfl rfl (by simp [pm_P, pm_sP, hx])) he]
      exact hP1
    refine pm_sz (S := pm_sP S a (va_up (pm_P S a) i.toNatClampNeg none)) (S0 := S0) hP2 hS1 X.2.2.1 hle.1 fun hz => ?_
    exact hc _ _ _ h.2.2.2 w p l e s m args below meth c' X H1 locs1 rls (hH.sP he hP1 hz) (h.2.2.1 hG) hle hS1 hL
  · exact h.elim
def pi_alen (pre : pm_M → Nat → Prop) (len : pm_M → Nat → Nat) (c : pm_K) : pm_K := fun ls st S => match st with
  | .ref a :: r => pre S a ∧ c ls (.int (Int32.ofNat (len S a)) :: r) S
  | _ => False
theorem ps_alen {pre : pm_M → Nat → Prop} {len : pm_M → Nat → Nat} (hd : decode μ.2.1 pc = .ok (.arraylength, 1)) (hg : ∀ S a, G S → pre S a → ∃ t, t < 12 ∧ pm_hd S a = (100 + t, len S a)) (hc : pm_S μ G d S0 Q (pc + 1) c) : pm_S μ G d S0 Q pc (pi_alen pre len c) := by
  intro ls st S h
  unfold pi_alen at h
  split at h
  · rename_i a r
    intro w p l e s m args below meth c' X H locs rls hH hG hle hS hL
    obtain ⟨t, ht, hh⟩ := hg S a hG h.1
    obtain ⟨h1, h2, h3⟩ := hH.arr (t := t) hh
    exact va_alen X.2.2.2.1 X.2.2.2.2.1 (pm_KX.K X.1 X.2.1) hH.1 a t h3 (pm_tys_at w ht) rfl hd (hc _ _ _ h.2 w p l e s m args below meth c' X H locs rls hH hG hle hS hL)
  · exact h.elim
/-- the script -/
def pi_sld (c : pm_K) : pm_K := fun ls st S => match st with
  | .int i :: .ref a :: r => a = 1000000 ∧ vp_in i (pm_hd S 1000000).2 ∧ c ls (.int (pm_I S 1000000 i.toNatClampNeg) :: r) S
  | _ => False
def pi_slen (c : pm_K) : pm_K := fun ls st S => match st with
  | .ref a :: r => a = 1000000 ∧ c ls (.int (Int32.ofNat (pm_hd S 1000000).2) :: r) S
  | _ => False
theorem pm_scr {w : pm_W} {U : State} (hw : pm_WOK w) (hK : pm_KX w U) : va_X (pm_x w 0) w.2.2.2.2.1 w.2.2.2.2.2 U U.heap ∧ pm_x w 0 < U.heap.size ∧ ¬ pm_A w (pm_x w 0) := by
  refine ⟨va_X.kept (va_X.moved hK.1.alike hw.2.2.2.1) (hK.2.2 _ hw.2.2.2.2.1), Nat.lt_of_lt_of_le hw.2.2.2.2.1 hK.2.1, fun h => ?_⟩
  have h1 := hw.2.2.2.2.1
  have h : pm_b w ≤ pm_x w 0 := h
  omega
theorem ps_sld (hd : decode μ.2.1 pc = .ok (.iaload, 1)) (hc : pm_S μ G d S0 Q (pc + 1) c) : pm_S μ G d S0 Q pc (pi_sld c) := by
  intro ls st S h
  unfold pi_sld at h
  split at h
  · rename_i i a r
    intro w p l e s m args below meth c' X H locs rls hH hG hle hS hL
    obtain ⟨rfl, h2, h3⟩ := h
    obtain ⟨e1, e2, e3⟩ := pm_scr X.1 X.2.1
    rw [hH.2.2.2.2.1] at h2
    rw [hH.2.2.2.2.2] at h3
    exact va_sld X.2.2.2.1 X.2.2.2.2.1 e1 e2 e3 hS h2 hd (hc _ _ _ h3 w p l e s m args below meth c' X H locs rls hH hG hle hS hL)
  · exact h.elim
theorem ps_slen (hd : decode μ.2.1 pc = .ok (.arraylength, 1)) (hc : pm_S μ G d S0 Q (pc + 1) c) : pm_S μ G d S0 Q pc (pi_slen c) := by
  intro ls st S h
  unfold pi_slen at h
  split at h
  · rename_i a r
    intro w p l e s m args below meth c' X H locs rls hH hG hle hS hL
    obtain ⟨rfl, h3⟩ := h
    obtain ⟨e1, e2, e3⟩ := pm_scr X.1 X.2.1
    rw [hH.2.2.2.2.1] at h3
    exact va_slen X.2.2.2.1 X.2.2.2.2.1 e1 e2 e3 hS hd (hc _ _ _ h3 w p l e s m args below meth c' X H locs rls hH hG hle hS hL)
  · exact h.elim
/-- new -/
def pi_new (ci n : Nat) (c : pm_K) : pm_K := fun ls st S => (pm_n S < 900000 ∧ pm_sl S + n ≤ 6000000) ∧ c ls (.ref (pm_n S) :: st) (pm_al S ci 0 n)
theorem pm_dv {w : pm_W} {S : pm_M} {k len sl j t : Nat} : pm_fw w (pm_al S k len sl) (pm_n S) j t = (if t = 0 then Value.int 0 else if t = 1 then .long 0 else .null) := by
  have e : S.2.2.2.2.1 = pm_n S := rfl
  simp only [pm_fw, pm_I, pm_L, pm_P, pm_al, e, if_true]
  by_cases h0 : t = 0
  · simp [h0]
  · by_cases h1 : t = 1
    · simp [h1]
    · simp [h0, h1, pm_r]
theorem ps_new {C : String} {T : u_T} {N ci n idx : Nat} (hcl : pm_cl[ci]? = some (C, T, N)) (hci : ci < 50) (hin : ∀ x ∈ u_ws C T N, x ∈ lw_all) (hlen : (pm_ft ci).length = N) (ty : Nat → FieldType) (hty : ∀ k, k < N → parseFieldDescriptor (T k).2.2.1 = some (ty k)) (hdf : ∀ j t, (pm_ft ci)[j]? = some t → defaultValue (ty j) = (if t = 0 then Value.int 0 else if t = 1 then .long 0 else .null))
    (hl : Cond.classLink μ.1.cls idx C ∈ lw_all) (hi : Cond.instantiable C n ∈ lw_all) (hini : Cond.initialized C ∈ lw_all) (hd : decode μ.2.1 pc = .ok (.new idx, 3)) (hGs : pm_Gs G) (hc : pm_S μ G d S0 Q (pc + 3) c) : pm_S μ G d S0 Q pc (pi_new ci n c) := by
  intro ls st S h w p l e s m args below meth c' X H locs rls hH hG hle hS hL
  have hK := pm_KX.K X.1 X.2.1
  have hKn := hK.1 ci _ hcl
  have h11 := h.1.1
  have h12 := h.1.2
  have hle1 := hle.1
  have hle2 := hle.2
  have e0 : (pm_R d S0).cells = 900000 - pm_n S0 := rfl
  have e1 : (pm_R d S0).slots = 6000000 - pm_sl S0 := rfl
  refine W.newcK X.2.2.2.1 X.2.2.2.2.1 X.2.2.2.2.2.2.2.1 (pm_word X.1 X.2.1 hl _) (pm_word X.1 X.2.1 hi _) (pm_word X.1 X.2.1 hini _) rfl hd (by rw [e0]; omega) (by rw [e1]; omega) hKn.2.1 rfl fun H1 kC hkC e1 z1 o1 => ?_
  have hk : ∀ (k : Nat) (x : Nat × va_E), (pm_ws w S)[k]? = some x → H1[x.1]? = H[x.1]? := fun k x hx => o1 x.1 ((hH.1 k x hx).lt)
  have hsz := hH.2.1
  have hce : pm_ce w (pm_al S ci 0 n) (pm_n S) = .inr (ci, pm_fv w (pm_al S ci 0 n) (pm_n S) 0 (pm_ft ci)) := by
    have q : pm_hd (pm_al S ci 0 n) (pm_n S) = (ci, 0) := by
      have e : S.2.2.2.2.1 = pm_n S := rfl
      simp [pm_hd, pm_al, e]
    simp only [pm_ce, q]
    rw [if_pos (by omega)]
  have hnew : va_P (pm_D w) pm_cl [(pm_b w + pm_n S, .inr (ci, pm_fv w (pm_al S ci 0 n) (pm_n S) 0 (pm_ft ci)))] H1 := by
    intro k x hx
    have hz : k < 1 := (List.getElem?_eq_some_iff.mp hx).1
    rw [show k = 0 by omega] at hx
    cases hx
    rw [hsz] at e1
    refine ⟨_, hcl, (u_born ty (pm_words X.1 X.2.1 args) hin hKn hkC e1 hty).to fun j hj => ?_⟩
    have hj2 : j < (pm_ft ci).length := by rw [hlen]; exact hj
    rw [hdf j _ (List.getElem?_eq_getElem hj2)]
    unfold vp_V
    rw [List.getD_eq_getElem?_getD, pm_fv_at, List.getElem?_eq_getElem hj2]
    simp only [Option.map_some, Option.getD_some, pm_dv]
  have hS1 : va_S (pm_A w) s.heap H1 locs := ⟨Nat.le_trans hS.1 (by omega), fun x h1 h2 => (o1 x (Nat.lt_of_lt_of_le h1 hS.1)).trans (hS.2.1 x h1 h2), hS.2.2⟩
  have hHR : pm_HR w (pm_al S ci 0 n) H1 := hH.al h.1.1 h.1.2 hce ((hH.1.kept hk).app hnew) (by rw [z1, hsz])
  have hW := hc _ _ _ h.2 w p l e s m args below meth c' X H1 locs rls hHR (hGs.2.2 _ _ _ _ hG) ⟨Nat.le_trans hle1 (Nat.le_succ _), Nat.le_trans hle2 (Nat.le_add_right _ _)⟩ hS1 hL
  have c1 : pm_n (pm_al S ci 0 n) - pm_n S0 = pm_n S - pm_n S0 + 1 := by
    show pm_n S + 1 - pm_n S0 = _
    omega
  have c2 : pm_sl (pm_al S ci 0 n) - pm_sl S0 = pm_sl S - pm_sl S0 + n := by
    show pm_sl S + n - pm_sl S0 = _
    omega
  rw [c1, c2] at hW
  have c3 : pm_f w (pm_n S) = H.size := by
    have := h.1.1
    rw [hsz]
    simp only [pm_f]
    rw [if_pos (by omega)]
  rw [List.map_cons, show pm_v w (.ref (pm_n S)) = .ref H.size from congrArg Value.ref c3] at hW
  exact hW
/-- an array of numbers -/
def pi_newa (t : Nat) (c : pm_K) : pm_K := fun ls st S => match st with
  | .int v :: r => (¬ v < 0 ∧ v.toNatClampNeg ≤ 10000 ∧ pm_n S < 900000 ∧ pm_sl S + v.toNatClampNeg ≤ 6000000) ∧ c ls (.ref (pm_n S) :: r) (pm_al S (100 + t) v.toNatClampNeg v.toNatClampNeg)
  | _ => False
theorem pm_newA {w : pm_W} {S : pm_M} {G : pm_M → Prop} {p : Program} {l : Launch} {e : Env} {s : State} {m : MethodId} {args : Array Value} {below : List Frame} {meth : Method} {c' : Code} {H H1 : Heap} {locs : List Loc} {rls : Array Slot} {ls : List (Option Value)} {r : List Value} {t N pc' : Nat} {q : Nat} {cA : ClassId} {x0 : (Nat → Int32) ⊕ (Nat → Int64) ⊕ (Nat → UInt32) ⊕ (Nat → UInt64) ⊕ (Nat → Option Nat)} (X : pm_Cx w μ S0 p s m meth c') (hH : pm_HR w S H) (hG : G S) (hle : pm_le S0 S) (hL : pm_LS w μ.2.2.1 ls rls) (hn : pm_n S < 900000) (hl9 : pm_sl S + N ≤ 6000000) (hGs : pm_Gs G)
    (hq : q = H.size) (hA : cA = pm_tc w t) (hx0 : pm_ac w (pm_al S (100 + t) N N) (pm_n S) t = x0) (hP1 : va_P (pm_D w) pm_cl (pm_ws w S ++ [(q, .inl (cA, N, x0))]) H1) (hS1 : va_S (pm_A w) s.heap H1 locs) (hc : pm_V μ G d S0 Q pc' ls (.ref (pm_n S) :: r) (pm_al S (100 + t) N N)) :
    W p l e (pm_R d S0) s m args below meth c' H1 locs (pm_n S - pm_n S0 + 1) (pm_sl S - pm_sl S0 + N) (pm_Z w G S0 Q below s) (F0 m pc' rls (.ref q :: r.map (pm_v w))) := by
  subst hA
  have hsz := hH.2.1
  have hce := pm_ceA (w := w) (S := pm_al S (100 + t) N N) (S' := pm_al S (100 + t) N N) (a := pm_n S) (t := t) (n := N) (by
      have e : S.2.2.2.2.1 = pm_n S := rfl
      simp [pm_hd, pm_al, e]) rfl hx0
  rw [hq, hsz] at hP1
  have c1 : pm_n (pm_al S (100 + t) N N) - pm_n S0 = pm_n S - pm_n S0 + 1 := by
    have := hle.1
    show pm_n S + 1 - pm_n S0 = _
    omega
  have c2 : pm_sl (pm_al S (100 + t) N N) - pm_sl S0 = pm_sl S - pm_sl S0 + N := by
    have := hle.2
    show pm_sl S + N - pm_sl S0 = _
    omega
  rw [← c1, ← c2]
  have hP2 : va_P (pm_D w) pm_cl (pm_ws w (pm_al S (100 + t) N N)) H1 := by
    rw [pm_ws_push (S := S) (S' := pm_al S (100 + t) N N) rfl (fun x hx => by
      have hx' : ¬ x = S.2.2.2.2.1 := Nat.ne_of_lt hx
      exact pm_ce_congr (by simp [pm_hd, pm_al, hx']) (by simp [pm_I, pm_al, hx']) (by simp [pm_L, pm_al, hx']) (by simp [pm_P, pm_al, hx'])) hce]
    exact hP1
  have hle' : pm_le S0 (pm_al S (100 + t) N N) := ⟨Nat.le_trans hle.1 (Nat.le_succ _), Nat.le_trans hle.2 (Nat.le_add_right _ _)⟩
  refine pm_sz (S := pm_al S (100 + t) N N) (S0 := S0) hP2 hS1 X.2.2.1 hle'.1 fun hz => ?_
  have hW := hc w p l e s m args below meth c' X H1 locs rls (hH.al hn hl9 hce hP1 hz) (hGs.2.2 _ _ _ _ hG) hle' hS1 hL
  have c3 : pm_f w (pm_n S) = q := by
    rw [hq, hsz]
    simp only [pm_f]
    rw [if_pos (by omega)]
  rw [List.map_cons, show pm_v w (.ref (pm_n S)) = .ref q from congrArg Value.ref c3] at hW
  exact hW
theorem ps_newi (hd : decode μ.2.1 pc = .ok (.newarray .int, 2)) (hq : Cond.arrayClass .int ∈ lw_all) (hGs : pm_Gs G) (hc : pm_S μ G d S0 Q (pc + 2) c) : pm_S μ G d S0 Q pc (pi_newa 0 c) := by
  intro ls st S h
  unfold pi_newa at h
  split at h
  · rename_i v r
    intro w p l e s m args below meth c' X H locs rls hH hG hle hS hL
    obtain ⟨⟨h1, h2, h3, h4⟩, hh⟩ := h
    have hle1 := hle.1
    have hle2 := hle.2
    have e0 : (pm_R d S0).cells = 900000 - pm_n S0 := rfl
    have e1 : (pm_R d S0).slots = 6000000 - pm_sl S0 := rfl
    have hK := pm_KX.K X.1 X.2.1
    have hsz := hH.2.1
    refine va_newaK X.2.2.2.1 X.2.2.2.2.1 (atype := .int) (pm_word X.1 X.2.1 hq _) (g := F0 m pc rls (.int v :: r.map (pm_v w))) rfl hd rfl h1 rfl (show _ * componentBytes .int ≤ _ by simp only [componentBytes]; omega) (by rw [e0]; omega) (by rw [e1]; omega) rfl fun H1 cA e1 z1 o1 hAr hNm => ?_
    have hk : ∀ (k : Nat) (x : Nat × va_E), (pm_ws w S)[k]? = some x → H1[x.1]? = H[x.1]? := fun k x hx => o1 x.1 ((hH.1 k x hx).lt)
    have hS1 : va_S (pm_A w) s.heap H1 locs := ⟨Nat.le_trans hS.1 (by omega), fun x h1 h2 => (o1 x (Nat.lt_of_lt_of_le h1 hS.1)).trans (hS.2.1 x h1 h2), hS.2.2⟩
    have hA : cA = pm_tc w 0 := Option.some.inj (hNm.symm.trans (hK.2 0 _ (pm_tys_at w (by decide))).2)
    refine pm_newA (q := H.size) (t := 0) (N := v.toNatClampNeg) (x0 := .inl (fun _ => 0)) X hH hG hle hL h3 h4 hGs rfl hA ?_ ((hH.1.kept hk).app ?_) hS1 (hc _ _ _ hh)
    · have e : S.2.2.2.2.1 = pm_n S := rfl
      simp [pm_ac, pm_I, pm_L, pm_al, e]
    · intro k x hx
      have hz : k < 1 := (List.getElem?_eq_some_iff.mp hx).1
      rw [show k = 0 by omega] at hx
      cases hx
      show H1[H.size]? = some (vp_cell _ _)
      rw [vp_cell_i]
      exact e1
  · exact h.elim
theorem ps_newl (hd : decode μ.2.1 pc = .ok (.newarray .long, 2)) (hq : Cond.arrayClass .long ∈ lw_all) (hGs : pm_Gs G) (hc : pm_S μ G d S0 Q (pc + 2) c) : pm_S μ G d S0 Q pc (pi_newa 1 c) := by
  intro ls st S h
  unfold pi_newa at h
  split at h
  · rename_i v r
    intro w p l e s m args below meth c' X H locs rls hH hG hle hS hL
    obtain ⟨⟨h1, h2, h3, h4⟩, hh⟩ := h
    have hle1 := hle.1
    have hle2 := hle.2
    have e0 : (pm_R d S0).cells = 900000 - pm_n S0 := rfl
    have e1 : (pm_R d S0).slots = 6000000 - pm_sl S0 := rfl
    have hK := pm_KX.K X.1 X.2.1
    have hsz := hH.2.1
    refine va_newaK X.2.2.2.1 X.2.2.2.2.1 (atype := .long) (pm_word X.1 X.2.1 hq _) (g := F0 m pc rls (.int v :: r.map (pm_v w))) rfl hd rfl h1 rfl (show _ * componentBytes .long ≤ _ by simp only [componentBytes]; omega) (by rw [e0]; omega) (by rw [e1]; omega) rfl fun H1 cA e1 z1 o1 hAr hNm => ?_
    have hk : ∀ (k : Nat) (x : Nat × va_E), (pm_ws w S)[k]? = some x → H1[x.1]? = H[x.1]? := fun k x hx => o1 x.1 ((hH.1 k x hx).lt)
    have hS1 : va_S (pm_A w) s.heap H1 locs := ⟨Nat.le_trans hS.1 (by omega), fun x h1 h2 => (o1 x (Nat.lt_of_lt_of_le h1 hS.1)).trans (hS.2.1 x h1 h2), hS.2.2⟩
    have hA : cA = pm_tc w 1 := Option.some.inj (hNm.symm.trans (hK.2 1 _ (pm_tys_at w (by decide))).2)
    refine pm_newA (q := H.size) (t := 1) (N := v.toNatClampNeg) (x0 := .inr (.inl (fun _ => 0))) X hH hG hle hL h3 h4 hGs rfl hA ?_ ((hH.1.kept hk).app ?_) hS1 (hc _ _ _ hh)
    · have e : S.2.2.2.2.1 = pm_n S := rfl
      simp [pm_ac, pm_I, pm_L, pm_al, e]
    · intro k x hx
      have hz : k < 1 := (List.getElem?_eq_some_iff.mp hx).1
      rw [show k = 0 by omega] at hx
      cases hx
      show H1[H.size]? = some (vp_cell _ _)
      rw [vp_cell_l]
      exact e1
  · exact h.elim
theorem ps_newb (hd : decode μ.2.1 pc = .ok (.newarray .byte, 2)) (hq : Cond.arrayClass .byte ∈ lw_all) (hGs : pm_Gs G) (hc : pm_S μ G d S0 Q (pc + 2) c) : pm_S μ G d S0 Q pc (pi_newa 2 c) := by
  intro ls st S h
  unfold pi_newa at h
  split at h
  · rename_i v r
    intro w p l e s m args below meth c' X H locs rls hH hG hle hS hL
    obtain ⟨⟨h1, h2, h3, h4⟩, hh⟩ := h
    have hle1 := hle.1
    have hle2 := hle.2
    have e0 : (pm_R d S0).cells = 900000 - pm_n S0 := rfl
    have e1 : (pm_R d S0).slots = 6000000 - pm_sl S0 := rfl
    have hK := pm_KX.K X.1 X.2.1
    have hsz := hH.2.1
    refine va_newaK X.2.2.2.1 X.2.2.2.2.1 (atype := .byte) (pm_word X.1 X.2.1 hq _) (g := F0 m pc rls (.int v :: r.map (pm_v w))) rfl hd rfl h1 rfl (show _ * componentBytes .byte ≤ _ by simp only [componentBytes]; omega) (by rw [e0]; omega) (by rw [e1]; omega) rfl fun H1 cA e1 z1 o1 hAr hNm => ?_
    have hk : ∀ (k : Nat) (x : Nat × va_E), (pm_ws w S)[k]? = some x → H1[x.1]? = H[x.1]? := fun k x hx => o1 x.1 ((hH.1 k x hx).lt)
    have hS1 : va_S (pm_A w) s.heap H1 locs := ⟨Nat.le_trans hS.1 (by omega), fun x h1 h2 => (o1 x (Nat.lt_of_lt_of_le h1 hS.1)).trans (hS.2.1 x h1 h2), hS.2.2⟩
    have hA : cA = pm_tc w 2 := Option.some.inj (hNm.symm.trans (hK.2 2 _ (pm_tys_at w (by decide))).2)
    refine pm_newA (q := H.size) (t := 2) (N := v.toNatClampNeg) (x0 := .inl (fun _ => 0)) X hH hG hle hL h3 h4 hGs rfl hA ?_ ((hH.1.kept hk).app ?_) hS1 (hc _ _ _ hh)
    · have e : S.2.2.2.2.1 = pm_n S := rfl
      simp [pm_ac, pm_I, pm_L, pm_al, e]
    · intro k x hx
      have hz : k < 1 := (List.getElem?_eq_some_iff.mp hx).1
      rw [show k = 0 by omega] at hx
      cases hx
      show H1[H.size]? = some (vp_cell _ _)
      rw [vp_cell_i]
      exact e1
  · exact h.elim
theorem ps_news (hd : decode μ.2.1 pc = .ok (.newarray .short, 2)) (hq : Cond.arrayClass .short ∈ lw_all) (hGs : pm_Gs G) (hc : pm_S μ G d S0 Q (pc + 2) c) : pm_S μ G d S0 Q pc (pi_newa 3 c) := by
  intro ls st S h
  unfold pi_newa at h
  split at h
  · rename_i v r
    intro w p l e s m args below meth c' X H locs rls hH hG hle hS hL
    obtain ⟨⟨h1, h2, h3, h4⟩, hh⟩ := h
    have hle1 := hle.1
    have hle2 := hle.2
    have e0 : (pm_R d S0).cells = 900000 - pm_n S0 := rfl
    have e1 : (pm_R d S0).slots = 6000000 - pm_sl S0 := rfl
    have hK := pm_KX.K X.1 X.2.1
    have hsz := hH.2.1
    refine va_newaK X.2.2.2.1 X.2.2.2.2.1 (atype := .short) (pm_word X.1 X.2.1 hq _) (g := F0 m pc rls (.int v :: r.map (pm_v w))) rfl hd rfl h1 rfl (show _ * componentBytes .short ≤ _ by simp only [componentBytes]; omega) (by rw [e0]; omega) (by rw [e1]; omega) rfl fun H1 cA e1 z1 o1 hAr hNm => ?_
    have hk : ∀ (k : Nat) (x : Nat × va_E), (pm_ws w S)[k]? = some x → H1[x.1]? = H[x.1]? := fun k x hx => o1 x.1 ((hH.1 k x hx).lt)
    have hS1 : va_S (pm_A w) s.heap H1 locs := ⟨Nat.le_trans hS.1 (by omega), fun x h1 h2 => (o1 x (Nat.lt_of_lt_of_le h1 hS.1)).trans (hS.2.1 x h1 h2), hS.2.2⟩
    have hA : cA = pm_tc w 3 := Option.some.inj (hNm.symm.trans (hK.2 3 _ (pm_tys_at w (by decide))).2)
    refine pm_newA (q := H.size) (t := 3) (N := v.toNatClampNeg) (x0 := .inl (fun _ => 0)) X hH hG hle hL h3 h4 hGs rfl hA ?_ ((hH.1.kept hk).app ?_) hS1 (hc _ _ _ hh)
    · have e : S.2.2.2.2.1 = pm_n S := rfl
      simp [pm_ac, pm_I, pm_L, pm_al, e]
    · intro k x hx
      have hz : k < 1 := (List.getElem?_eq_some_iff.mp hx).1
      rw [show k = 0 by omega] at hx
      cases hx
      show H1[H.size]? = some (vp_cell _ _)
      rw [vp_cell_i]
      exact e1
  · exact h.elim
theorem ps_newz (hd : decode μ.2.1 pc = .ok (.newarray .boolean, 2)) (hq : Cond.arrayClass .boolean ∈ lw_all) (hGs : pm_Gs G) (hc : pm_S μ G d S0 Q (pc + 2) c) : pm_S μ G d S0 Q pc (pi_newa 4 c) := by
  intro ls st S h
  unfold pi_newa at h
  split at h
  · rename_i v r
    intro w p l e s m args below meth c' X H locs rls hH hG hle hS hL
    obtain ⟨⟨h1, h2, h3, h4⟩, hh⟩ := h
    have hle1 := hle.1
    have hle2 := hle.2
    have e0 : (pm_R d S0).cells = 900000 - pm_n S0 := rfl
    have e1 : (pm_R d S0).slots = 6000000 - pm_sl S0 := rfl
    have hK := pm_KX.K X.1 X.2.1
    have hsz := hH.2.1
    refine va_newaK X.2.2.2.1 X.2.2.2.2.1 (atype := .boolean) (pm_word X.1 X.2.1 hq _) (g := F0 m pc rls (.int v :: r.map (pm_v w))) rfl hd rfl h1 rfl (show _ * componentBytes .boolean ≤ _ by simp only [componentBytes]; omega) (by rw [e0]; omega) (by rw [e1]; omega) rfl fun H1 cA e1 z1 o1 hAr hNm => ?_
    have hk : ∀ (k : Nat) (x : Nat × va_E), (pm_ws w S)[k]? = some x → H1[x.1]? = H[x.1]? := fun k x hx => o1 x.1 ((hH.1 k x hx).lt)
    have hS1 : va_S (pm_A w) s.heap H1 locs := ⟨Nat.le_trans hS.1 (by omega), fun x h1 h2 => (o1 x (Nat.lt_of_lt_of_le h1 hS.1)).trans (hS.2.1 x h1 h2), hS.2.2⟩
    have hA : cA = pm_tc w 4 := Option.some.inj (hNm.symm.trans (hK.2 4 _ (pm_tys_at w (by decide))).2)
    refine pm_newA (q := H.size) (t := 4) (N := v.toNatClampNeg) (x0 := .inl (fun _ => 0)) X hH hG hle hL h3 h4 hGs rfl hA ?_ ((hH.1.kept hk).app ?_) hS1 (hc _ _ _ hh)
    · have e : S.2.2.2.2.1 = pm_n S := rfl
      simp [pm_ac, pm_I, pm_L, pm_al, e]
    · intro k x hx
      have hz : k < 1 := (List.getElem?_eq_some_iff.mp hx).1
      rw [show k = 0 by omega] at hx
      cases hx
      show H1[H.size]? = some (vp_cell _ _)
      rw [vp_cell_i]
      exact e1
  · exact h.elim
theorem ps_anew (t : Nat) (ht : 5 ≤ t) (ht2 : t < 12) {E : String} {idx : Nat} (hE : pm_ty t = .object E) (hd : decode μ.2.1 pc = .ok (.anewarray idx, 3)) (hl : Cond.classLink μ.1.cls idx E ∈ lw_all) (ho : Cond.arrayOver (.object E) ∈ lw_tbl) (hGs : pm_Gs G) (hc : pm_S μ G d S0 Q (pc + 3) c) : pm_S μ G d S0 Q pc (pi_newa t c) := by
  intro ls st S h
  unfold pi_newa at h
  split at h
  · rename_i v r
    intro w p l e s m args below meth c' X H locs rls hH hG hle hS hL
    obtain ⟨⟨h1, h2, h3, h4⟩, hh⟩ := h
    have hle1 := hle.1
    have hle2 := hle.2
    have e0 : (pm_R d S0).cells = 900000 - pm_n S0 := rfl
    have e1 : (pm_R d S0).slots = 6000000 - pm_sl S0 := rfl
    have hK := pm_KX.K X.1 X.2.1
    have hsz := hH.2.1
    have hty := pm_tys_at w ht2
    rw [hE] at hty
    refine W.anew X.2.2.2.1 X.2.2.2.2.1 X.2.2.2.2.2.2.2.1 (pm_word X.1 X.2.1 hl _) (va_AO.use (pm_nO X.1 X.2.1 ho)) (g := F0 m pc rls (.int v :: r.map (pm_v w))) rfl hd rfl h1 (by omega) (by rw [e0]; omega) (by rw [e1]; omega) fun cA kA comp f1 f2 f3 f4 => ?_
    generalize hH1 : H.push ({ cls := cA, slots := Array.replicate v.toNatClampNeg .null, vm := .none } : Cell) = H1
    have z1 : H1.size = H.size + 1 := by rw [← hH1, Array.size_push]
    have e1 : H1[H.size]? = some (arrV cA v.toNatClampNeg (fun _ => .null)) := by rw [← hH1, Array.getElem?_push_size, ← arrV_new]
    have o1 : ∀ q : Nat, q < H.size → H1[q]? = H[q]? := fun q hq => by rw [← hH1, Array.getElem?_push, if_neg (Nat.ne_of_lt hq)]
    have hk : ∀ (k : Nat) (x : Nat × va_E), (pm_ws w S)[k]? = some x → H1[x.1]? = H[x.1]? := fun k x hx => o1 x.1 ((hH.1 k x hx).lt)
    have hS1 : va_S (pm_A w) s.heap H1 locs := ⟨Nat.le_trans hS.1 (by omega), fun x h1 h2 => (o1 x (Nat.lt_of_lt_of_le h1 hS.1)).trans (hS.2.1 x h1 h2), hS.2.2⟩
    have hA : cA = pm_tc w t := by
      obtain ⟨_, _, -, -, -, f5⟩ := (hK.2 t _ hty).2
      exact Option.some.inj (f1.symm.trans f5)
    refine pm_newA (q := H.size) (t := t) (N := v.toNatClampNeg) (x0 := .inr (.inr (.inr (.inr (fun _ => none))))) X hH hG hle hL h3 h4 hGs rfl hA ?_ ((hH.1.kept hk).app ?_) hS1 (hc _ _ _ hh)
    · rw [pm_acR ht]
      have e : S.2.2.2.2.1 = pm_n S := rfl
      simp [pm_P, pm_al, e]
    · intro k x hx
      have hz : k < 1 := (List.getElem?_eq_some_iff.mp hx).1
      rw [show k = 0 by omega] at hx
      cases hx
      show H1[H.size]? = some (vp_cell _ _)
      rw [vp_cell_q]
      exact e1
  · exact h.elim
end PA
