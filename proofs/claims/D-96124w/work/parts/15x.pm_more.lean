/-! ===== pi_, ps_: Math, System.arraycopy, casts ===== -/
set_option maxRecDepth 100000
section PX
variable {μ : pm_Mt} {G : pm_M → Prop} {d : Nat} {S0 : pm_M} {Q : Outcome → pm_M → Prop} {pc : Nat} {c : pm_K}
def pi_mmax (c : pm_K) : pm_K := fun ls st S => match st with
  | .int y :: .int x :: r => (r.map fun v => v.category).sum ≤ 24 ∧ c ls (.int (if x < y then y else x) :: r) S
  | _ => False
theorem ps_mmax {idx : Nat} (hd : decode μ.2.1 pc = .ok (.invokestatic idx, 3)) (hl : Cond.methodLink μ.1.cls idx Lib.Math.max.name ∈ lw_all) (hs : Cond.static Lib.Math.max.name ∈ lw_all) (hi : Cond.initialized "java/lang/Math" ∈ lw_all) (hcd : Cond.code Lib.Math.max.name Lib.Math.max.code 2 (some .int) ∈ lw_all) (hd1 : 0 < d) (hc : pm_S μ G d S0 Q (pc + 3) c) : pm_S μ G d S0 Q pc (pi_mmax c) := by
  intro ls st S h
  unfold pi_mmax at h
  split at h
  · rename_i y x r
    intro w p l e s m args below meth c' X H locs rls hH hG hle hS hL
    have hle1 := hle.1
    have hle2 := hle.2
    have hn9 := hH.2.2.1.1
    have hn8 := hH.2.2.1.2
    exact va_mmax X.2.2.2.1 X.2.2.2.2.1 (by rw [X.2.2.2.2.2.1]; exact hL.1.symm) X.2.2.2.2.2.2.2.1 (pm_word X.1 X.2.1 hl _) (pm_word X.1 X.2.1 hs _) (pm_word X.1 X.2.1 hi _) (pm_word X.1 X.2.1 hcd _) (show 1 ≤ d from hd1) (show _ ≤ 64 * d by rw [pm_cats]; omega) (show _ ≤ 900000 - pm_n S0 by omega) (show _ ≤ 6000000 - pm_sl S0 by omega) hd (hc _ _ _ h.2 w p l e s m args below meth c' X H locs rls hH hG hle hS hL)
  · exact h.elim
def pi_mmin (c : pm_K) : pm_K := fun ls st S => match st with
  | .int y :: .int x :: r => (r.map fun v => v.category).sum ≤ 24 ∧ c ls (.int (if y < x then y else x) :: r) S
  | _ => False
theorem ps_mmin {idx : Nat} (hd : decode μ.2.1 pc = .ok (.invokestatic idx, 3)) (hl : Cond.methodLink μ.1.cls idx Lib.Math.min.name ∈ lw_all) (hs : Cond.static Lib.Math.min.name ∈ lw_all) (hi : Cond.initialized "java/lang/Math" ∈ lw_all) (hcd : Cond.code Lib.Math.min.name Lib.Math.min.code 2 (some .int) ∈ lw_all) (hd1 : 0 < d) (hc : pm_S μ G d S0 Q (pc + 3) c) : pm_S μ G d S0 Q pc (pi_mmin c) := by
  intro ls st S h
  unfold pi_mmin at h
  split at h
  · rename_i y x r
    intro w p l e s m args below meth c' X H locs rls hH hG hle hS hL
    have hle1 := hle.1
    have hle2 := hle.2
    have hn9 := hH.2.2.1.1
    have hn8 := hH.2.2.1.2
    exact va_mmin X.2.2.2.1 X.2.2.2.2.1 (by rw [X.2.2.2.2.2.1]; exact hL.1.symm) X.2.2.2.2.2.2.2.1 (pm_word X.1 X.2.1 hl _) (pm_word X.1 X.2.1 hs _) (pm_word X.1 X.2.1 hi _) (pm_word X.1 X.2.1 hcd _) (show 1 ≤ d from hd1) (show _ ≤ 64 * d by rw [pm_cats]; omega) (show _ ≤ 900000 - pm_n S0 by omega) (show _ ≤ 6000000 - pm_sl S0 by omega) hd (hc _ _ _ h.2 w p l e s m args below meth c' X H locs rls hH hG hle hS hL)
  · exact h.elim
/-- System.arraycopy of ints -/
def pi_cpI (pre : pm_M → Nat → Prop) (len : pm_M → Nat → Nat) (pre1 : pm_M → Nat → Prop) (len1 : pm_M → Nat → Nat) (c : pm_K) : pm_K := fun ls st S => match st with
  | .int n :: .int dp :: .ref a1 :: .int sp :: .ref a0 :: r => (pre S a0 ∧ pre1 S a1 ∧ ¬ sp < 0 ∧ ¬ dp < 0 ∧ ¬ n < 0 ∧ sp.toNatClampNeg + n.toNatClampNeg ≤ len S a0 ∧ dp.toNatClampNeg + n.toNatClampNeg ≤ len1 S a1 ∧ (r.map fun v => v.category).sum ≤ 24) ∧ c ls r (pm_sI S a1 (va_cpy (pm_I S a0) (pm_I S a1) sp.toNatClampNeg dp.toNatClampNeg n.toNatClampNeg))
  | _ => False
theorem pm_cpI_step {w : pm_W} {S : pm_M} {p : Program} {l : Launch} {e : Env} {s : State} {m : MethodId} {args : Array Value} {below : List Frame} {meth : Method} {c' : Code} {H : Heap} {locs : List Loc} {rls : Array Slot} {ls : List (Option Value)} {r : List Value} {t n0 n1 a0 a1 idx : Nat} {sp dp n : Int32} (ht : t < 5) (ht1 : ¬ t = 1) (X : pm_Cx w μ S0 p s m meth c') (hH : pm_HR w S H) (hG : G S) (hle : pm_le S0 S) (hS : va_S (pm_A w) s.heap H locs) (hL : pm_LS w μ.2.2.1 ls rls) (hGs : pm_Gs G)
    (hd : decode μ.2.1 pc = .ok (.invokestatic idx, 3)) (hl : Cond.methodLink μ.1.cls idx arraycopyName ∈ lw_all) (hnat : Cond.native arraycopyName ∈ lw_all) (hs : Cond.static arraycopyName ∈ lw_all) (hi : Cond.initialized "java/lang/System" ∈ lw_all) (hd1 : 0 < d)
    (h0 : pm_hd S a0 = (100 + t, n0)) (h1 : pm_hd S a1 = (100 + t, n1)) (e1 : ¬ sp < 0) (e2 : ¬ dp < 0) (e3 : ¬ n < 0) (e4 : sp.toNatClampNeg + n.toNatClampNeg ≤ n0) (e5 : dp.toNatClampNeg + n.toNatClampNeg ≤ n1) (hfit : ∀ i, i < n.toNatClampNeg → fits (pm_ty t) (.int (pm_I S a0 (sp.toNatClampNeg + i))) = true) (hr : (r.map fun v => v.category).sum ≤ 24)
    (hc : pm_V μ G d S0 Q (pc + 3) ls r (pm_sI S a1 (va_cpy (pm_I S a0) (pm_I S a1) sp.toNatClampNeg dp.toNatClampNeg n.toNatClampNeg))) :
    W p l e (pm_R d S0) s m args below meth c' H locs (pm_n S - pm_n S0) (pm_sl S - pm_sl S0) (pm_Z w G S0 Q below s) (F0 m pc rls (.int n :: .int dp :: .ref (pm_f w a1) :: .int sp :: .ref (pm_f w a0) :: r.map (pm_v w))) := by
  obtain ⟨f1, f2, f3⟩ := hH.arr (t := t) h0
  obtain ⟨g1, g2, g3⟩ := hH.arr (t := t) h1
  have hac : ∀ a, pm_ac w S a t = .inl (pm_I S a) := fun a => by simp only [pm_ac]; rw [if_neg ht1, if_pos ht]
  rw [hac] at f3 g3
  have hrk : refKind (pm_ty t) = false := by
    match t, ht with
    | 0, _ => rfl
    | 1, _ => rfl
    | 2, _ => rfl
    | 3, _ => rfl
    | 4, _ => rfl
  refine va_copyi X.2.2.2.1 X.2.2.2.2.1 (by rw [X.2.2.2.2.2.1]; exact hL.1.symm) X.2.2.2.2.2.2.2.1 (pm_word X.1 X.2.1 hl _) (pm_word X.1 X.2.1 hnat _) (pm_word X.1 X.2.1 hs _) (pm_word X.1 X.2.1 hi _) (pm_KX.K X.1 X.2.1) hH.1 (pm_ws_D w S) hS a0 a1 t t f3 g3 (pm_tys_at w (by omega)) (pm_tys_at w (by omega)) hrk e1 e2 e3 e4 e5 hfit (show 1 ≤ d from hd1) (show _ + (7 + 11) ≤ 64 * d by rw [pm_cats]; omega) hd fun H1 locs1 hP1 _ hS1 => ?_
  have he := pm_ceA (w := w) (S := S) (S' := pm_sI S a1 (va_cpy (pm_I S a0) (pm_I S a1) sp.toNatClampNeg dp.toNatClampNeg n.toNatClampNeg)) (a := a1) (t := t) h1 rfl (x := .inl (va_cpy (pm_I S a0) (pm_I S a1) sp.toNatClampNeg dp.toNatClampNeg n.toNatClampNeg)) (by simp only [pm_ac]; rw [if_neg ht1, if_pos ht]; simp [pm_I, pm_sI])
  rw [g2] at hP1
  have hP2 : va_P (pm_D w) pm_cl (pm_ws w (pm_sI S a1 (va_cpy (pm_I S a0) (pm_I S a1) sp.toNatClampNeg dp.toNatClampNeg n.toNatClampNeg))) H1 := by
    rw [pm_ws_set (S := S) (S' := pm_sI S a1 (va_cpy (pm_I S a0) (pm_I S a1) sp.toNatClampNeg dp.toNatClampNeg n.toNatClampNeg)) (a := a1) rfl (fun x hx => pm_ce_congr rfl (by simp [pm_I, pm_sI, hx]) rfl rfl) he]
    exact hP1
  refine pm_sz (S := pm_sI S a1 (va_cpy (pm_I S a0) (pm_I S a1) sp.toNatClampNeg dp.toNatClampNeg n.toNatClampNeg)) (S0 := S0) hP2 hS1 X.2.2.1 hle.1 fun hz => ?_
  exact hc w p l e s m args below meth c' X H1 locs1 rls (hH.sI g1 he hP1 hz) (hGs.1 _ _ _ hG) hle hS1 hL
theorem ps_cpI {pre : pm_M → Nat → Prop} {len : pm_M → Nat → Nat} {pre1 : pm_M → Nat → Prop} {len1 : pm_M → Nat → Nat} {idx : Nat} (hd : decode μ.2.1 pc = .ok (.invokestatic idx, 3)) (hl : Cond.methodLink μ.1.cls idx arraycopyName ∈ lw_all) (hnat : Cond.native arraycopyName ∈ lw_all) (hs : Cond.static arraycopyName ∈ lw_all) (hi : Cond.initialized "java/lang/System" ∈ lw_all) (hd1 : 0 < d)
    (hg : ∀ S a, G S → pre S a → pm_hd S a = (100, len S a)) (hg1 : ∀ S a, G S → pre1 S a → pm_hd S a = (100, len1 S a)) (hGs : pm_Gs G) (hc : pm_S μ G d S0 Q (pc + 3) c) : pm_S μ G d S0 Q pc (pi_cpI pre len pre1 len1 c) := by
  intro ls st S h
  unfold pi_cpI at h
  split at h
  · rename_i n dp a1 sp a0 r
    intro w p l e s m args below meth c' X H locs rls hH hG hle hS hL
    obtain ⟨⟨k1, k2, k3, k4, k5, k6, k7, k8⟩, hh⟩ := h
    exact pm_cpI_step (t := 0) (by decide) (by decide) X hH hG hle hS hL hGs hd hl hnat hs hi hd1 (hg S a0 hG k1) (hg1 S a1 hG k2) k3 k4 k5 k6 k7 (fun _ _ => rfl) k8 (hc _ _ _ hh)
  · exact h.elim
end PX
