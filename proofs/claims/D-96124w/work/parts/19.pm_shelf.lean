/-! ===== pi_, ps_: what lies on the shelves: casts, instanceof, Object[] ===== -/
set_option maxRecDepth 100000
def pm_nm (k : Nat) : String := match k with
  | 15 => "HatRank$Body" | 16 => "HatRank$Strapped" | 17 => "HatRank$Blown" | 18 => "HatRank$Caught" | 19 => "HatRank$OldHat" | 20 => "HatRank$LostHat" | 21 => "HatRank$NewHat" | 22 => "HatRank$Crown"
  | 100 => "[I" | 101 => "[J" | 102 => "[B" | 103 => "[S" | _ => "[Z"
def pm_kl : List Nat := [15, 16, 17, 18, 19, 20, 21, 22, 100, 101, 102, 103, 104]
def pm_sh (k : Nat) : Prop := (15 ≤ k ∧ k ≤ 22) ∨ (100 ≤ k ∧ k ≤ 104)
theorem pm_sh_in {k : Nat} (h : pm_sh k) : k ∈ pm_kl := by
  rcases h with h | h
  · rcases (show k = 15 ∨ k = 16 ∨ k = 17 ∨ k = 18 ∨ k = 19 ∨ k = 20 ∨ k = 21 ∨ k = 22 by omega) with rfl | rfl | rfl | rfl | rfl | rfl | rfl | rfl <;> decide
  · rcases (show k = 100 ∨ k = 101 ∨ k = 102 ∨ k = 103 ∨ k = 104 by omega) with rfl | rfl | rfl | rfl | rfl <;> decide
theorem pm_nca : ∀ k ∈ pm_kl, ∀ t ∈ [100, 101, 102, 103, 104], k ≠ t → Cond.not (Cond.castable (pm_nm k) (pm_nm t)) ∈ flatC narrow_1 := by decide +kernel
theorem pm_ncb : ∀ t ∈ [100, 101, 102, 103, 104], Cond.not (Cond.castable (pm_nm t) "HatRank$Body") ∈ flatC narrow_1 := by decide +kernel
theorem pm_clb : ∀ k, 15 ≤ k → k ≤ 22 → pm_cl[k]? = some (pm_nm k, TX15, 2) := by
  intro k h1 h2
  rcases (show k = 15 ∨ k = 16 ∨ k = 17 ∨ k = 18 ∨ k = 19 ∨ k = 20 ∨ k = 21 ∨ k = 22 by omega) with rfl | rfl | rfl | rfl | rfl | rfl | rfl | rfl <;> rfl
theorem pm_fc {w : pm_W} {s : State} (hw : pm_WOK w) (hK : pm_KX w s) {t : Nat} (ht : t < 5) : s.vm.findClass (pm_nm (100 + t)) = some (pm_tc w t) := by
  have h := ((pm_KX.K hw hK).2 t _ (pm_tys_at w (by omega))).2
  match t, ht, h with
  | 0, _, h => exact h
  | 1, _, h => exact h
  | 2, _, h => exact h
  | 3, _, h => exact h
  | 4, _, h => exact h
theorem pm_vcell (cA : ClassId) (x : vp_A) : (vp_cell cA x).vm = .none ∧ (vp_cell cA x).cls = cA := by
  obtain ⟨n, f | f | f | f | f⟩ := x <;> exact ⟨rfl, rfl⟩
theorem pm_shr {w : pm_W} {S : pm_M} {s : State} {H : Heap} {a : Nat} (hw : pm_WOK w) (hK : pm_KX w s) (hH : pm_HR w S H) (h : pm_sh (pm_hd S a).1) : ∃ cell : Cell, H[pm_f w a]? = some cell ∧ cell.vm.isStatics = false ∧ s.vm.findClass (pm_nm (pm_hd S a).1) = some cell.cls := by
  rcases h with h | h
  · exact pm_recv hw hK hH rfl (by omega) (pm_clb _ h.1 h.2)
  · obtain ⟨t, ht⟩ : ∃ t, (pm_hd S a).1 = 100 + t := ⟨(pm_hd S a).1 - 100, by omega⟩
    obtain ⟨h1, h2, h3⟩ := hH.arr (t := t) (n := (pm_hd S a).2) (Prod.ext ht rfl)
    have hc := pm_vcell (pm_tc w t) ((pm_hd S a).2, pm_ac w S a t)
    refine ⟨_, hH.1 a _ h3, by rw [hc.1]; rfl, ?_⟩
    rw [hc.2, ht]
    exact pm_fc hw hK (by omega)
section PSH
variable {μ : pm_Mt} {G : pm_M → Prop} {d : Nat} {S0 : pm_M} {Q : Outcome → pm_M → Prop} {pc : Nat} {c : pm_K}
def pi_castA (t : Nat) (c : pm_K) : pm_K := fun ls st S => match st with
  | .ref a :: r => (pm_hd S a).1 = 100 + t ∧ c ls (.ref a :: r) S
  | .null :: r => c ls (.null :: r) S
  | _ => False
theorem ps_castA (t : Nat) (ht : t < 5) {idx : Nat} (hd : decode μ.2.1 pc = .ok (.checkcast idx, 3)) (hl : Cond.classLink μ.1.cls idx (pm_nm (100 + t)) ∈ lw_all) (hc : pm_S μ G d S0 Q (pc + 3) c) : pm_S μ G d S0 Q pc (pi_castA t c) := by
  intro ls st S h
  unfold pi_castA at h
  split at h
  · rename_i a r
    intro w p l e s m args below meth c' X H locs rls hH hG hle hS hL
    obtain ⟨h1, h2, h3⟩ := hH.arr (t := t) (n := (pm_hd S a).2) (Prod.ext h.1 rfl)
    exact va_castA X.2.2.2.1 X.2.2.2.2.1 X.2.2.2.2.2.2.2.1 (pm_word X.1 X.2.1 hl _) hH.1 a h3 (pm_fc X.1 X.2.1 ht) hd (hc _ _ _ h.2 w p l e s m args below meth c' X H locs rls hH hG hle hS hL)
  · intro w p l e s m args below meth c' X H locs rls hH hG hle hS hL
    exact lv_castN X.2.2.2.1 X.2.2.2.2.1 hd (hc _ _ _ h w p l e s m args below meth c' X H locs rls hH hG hle hS hL)
  · exact h.elim
def pi_castB (c : pm_K) : pm_K := fun ls st S => match st with
  | .ref a :: r => pm_bd S a ∧ c ls (.ref a :: r) S
  | _ => False
theorem ps_castB {idx : Nat} (hd : decode μ.2.1 pc = .ok (.checkcast idx, 3)) (hl : Cond.classLink μ.1.cls idx "HatRank$Body" ∈ lw_all) (hc : pm_S μ G d S0 Q (pc + 3) c) : pm_S μ G d S0 Q pc (pi_castB c) := by
  intro ls st S h
  unfold pi_castB at h
  split at h
  · rename_i a r
    intro w p l e s m args below meth c' X H locs rls hH hG hle hS hL
    obtain ⟨ci, rr, e1, e2, e3, e4⟩ := pm_bd_ok (G := G) S a hG h.1
    have hr := pm_recv X.1 X.2.1 hH e1 e2 e3
    rcases e4 with e4 | e4
    · rw [e4] at hr
      exact va_castE X.2.2.2.1 X.2.2.2.2.1 X.2.2.2.2.2.2.2.1 (pm_word X.1 X.2.1 hl _) hr hd (hc _ _ _ h.2 w p l e s m args below meth c' X H locs rls hH hG hle hS hL)
    · exact va_castY X.2.2.2.1 X.2.2.2.2.1 X.2.2.2.2.2.2.2.1 (pm_word X.1 X.2.1 hl _) (pm_nC X.1 X.2.1 e4) hr hd (hc _ _ _ h.2 w p l e s m args below meth c' X H locs rls hH hG hle hS hL)
  · exact h.elim
def pi_inA (t : Nat) (c : pm_K) : pm_K := fun ls st S => match st with
  | .ref a :: r => pm_sh (pm_hd S a).1 ∧ ((pm_hd S a).1 = 100 + t → c ls (.int 1 :: r) S) ∧ (¬ (pm_hd S a).1 = 100 + t → c ls (.int 0 :: r) S)
  | .null :: r => c ls (.int 0 :: r) S
  | _ => False
theorem ps_inA (t : Nat) (ht : t < 5) {idx : Nat} (hd : decode μ.2.1 pc = .ok (.instanceof idx, 3)) (hl : Cond.classLink μ.1.cls idx (pm_nm (100 + t)) ∈ lw_all) (hc : pm_S μ G d S0 Q (pc + 3) c) : pm_S μ G d S0 Q pc (pi_inA t c) := by
  intro ls st S h
  unfold pi_inA at h
  split at h
  · rename_i a r
    intro w p l e s m args below meth c' X H locs rls hH hG hle hS hL
    have hr := pm_shr X.1 X.2.1 hH h.1
    by_cases ek : (pm_hd S a).1 = 100 + t
    · rw [ek] at hr
      exact va_instE X.2.2.2.1 X.2.2.2.2.1 X.2.2.2.2.2.2.2.1 (pm_word X.1 X.2.1 hl _) hr hd (hc _ _ _ (h.2.1 ek) w p l e s m args below meth c' X H locs rls hH hG hle hS hL)
    · have ht2 : 100 + t ∈ [100, 101, 102, 103, 104] := by
        rcases (show t = 0 ∨ t = 1 ∨ t = 2 ∨ t = 3 ∨ t = 4 by omega) with rfl | rfl | rfl | rfl | rfl <;> decide
      exact va_instNo X.2.2.2.1 X.2.2.2.2.1 X.2.2.2.2.2.2.2.1 (pm_word X.1 X.2.1 hl _) (pm_nNc X.1 X.2.1 (pm_nca _ (pm_sh_in h.1) _ ht2 ek)) hr hd (hc _ _ _ (h.2.2 ek) w p l e s m args below meth c' X H locs rls hH hG hle hS hL)
  · intro w p l e s m args below meth c' X H locs rls hH hG hle hS hL
    exact lv_instN X.2.2.2.1 X.2.2.2.2.1 hd (hc _ _ _ h w p l e s m args below meth c' X H locs rls hH hG hle hS hL)
  · exact h.elim
def pi_inB (c : pm_K) : pm_K := fun ls st S => match st with
  | .ref a :: r => pm_sh (pm_hd S a).1 ∧ ((pm_hd S a).1 ≤ 22 → c ls (.int 1 :: r) S) ∧ (¬ (pm_hd S a).1 ≤ 22 → c ls (.int 0 :: r) S)
  | .null :: r => c ls (.int 0 :: r) S
  | _ => False
theorem ps_inB {idx : Nat} (hd : decode μ.2.1 pc = .ok (.instanceof idx, 3)) (hl : Cond.classLink μ.1.cls idx "HatRank$Body" ∈ lw_all) (hc : pm_S μ G d S0 Q (pc + 3) c) : pm_S μ G d S0 Q pc (pi_inB c) := by
  intro ls st S h
  unfold pi_inB at h
  split at h
  · rename_i a r
    intro w p l e s m args below meth c' X H locs rls hH hG hle hS hL
    have hr := pm_shr X.1 X.2.1 hH h.1
    by_cases ek : (pm_hd S a).1 ≤ 22
    · have hb : pm_bd S a := by
        rcases h.1 with q | q
        · exact q
        · omega
      obtain ⟨ci, rr, e1, e2, e3, e4⟩ := pm_bd_ok (G := G) S a hG hb
      have hr := pm_recv X.1 X.2.1 hH e1 e2 e3
      rcases e4 with e4 | e4
      · rw [e4] at hr
        exact va_instE X.2.2.2.1 X.2.2.2.2.1 X.2.2.2.2.2.2.2.1 (pm_word X.1 X.2.1 hl _) hr hd (hc _ _ _ (h.2.1 ek) w p l e s m args below meth c' X H locs rls hH hG hle hS hL)
      · exact va_instY X.2.2.2.1 X.2.2.2.2.1 X.2.2.2.2.2.2.2.1 (pm_word X.1 X.2.1 hl _) (pm_nC X.1 X.2.1 e4) hr hd (hc _ _ _ (h.2.1 ek) w p l e s m args below meth c' X H locs rls hH hG hle hS hL)
    · have ht2 : (pm_hd S a).1 ∈ [100, 101, 102, 103, 104] := by
        rcases h.1 with q | q
        · omega
        · rcases (show (pm_hd S a).1 = 100 ∨ (pm_hd S a).1 = 101 ∨ (pm_hd S a).1 = 102 ∨ (pm_hd S a).1 = 103 ∨ (pm_hd S a).1 = 104 by omega) with q | q | q | q | q <;> rw [q] <;> decide
      exact va_instNo X.2.2.2.1 X.2.2.2.2.1 X.2.2.2.2.2.2.2.1 (pm_word X.1 X.2.1 hl _) (pm_nNc X.1 X.2.1 (pm_ncb _ ht2)) hr hd (hc _ _ _ (h.2.2 ek) w p l e s m args below meth c' X H locs rls hH hG hle hS hL)
  · intro w p l e s m args below meth c' X H locs rls hH hG hle hS hL
    exact lv_instN X.2.2.2.1 X.2.2.2.2.1 hd (hc _ _ _ h w p l e s m args below meth c' X H locs rls hH hG hle hS hL)
  · exact h.elim
/-- a store into the shelves -/
def pi_astO (G : pm_M → Prop) (pre : pm_M → Nat → Prop) (len : pm_M → Nat → Nat) (c : pm_K) : pm_K := fun ls st S => match st with
  | .ref x :: .int i :: .ref a :: r => pre S a ∧ vp_in i (len S a) ∧ pm_sh (pm_hd S x).1 ∧ (G S → G (pm_sP S a (va_up (pm_P S a) i.toNatClampNeg (some x)))) ∧ c ls r (pm_sP S a (va_up (pm_P S a) i.toNatClampNeg (some x)))
  | .null :: .int i :: .ref a :: r => pre S a ∧ vp_in i (len S a) ∧ (G S → G (pm_sP S a (va_up (pm_P S a) i.toNatClampNeg none))) ∧ c ls r (pm_sP S a (va_up (pm_P S a) i.toNatClampNeg none))
  | _ => False
theorem pm_any_o {w : pm_W} {S : pm_M} {s : State} {H : Heap} {a : Nat} (hw : pm_WOK w) (hK : pm_KX w s) (hH : pm_HR w S H) (h : pm_sh (pm_hd S a).1) (hcs : ∀ k ∈ pm_kl, Cond.castable (pm_nm k) "java/lang/Object" ∈ lw_tbl) : va_Any "java/lang/Object" s H (pm_f w a) := by
  obtain ⟨cell, h1, h2, h3⟩ := pm_shr hw hK hH h
  obtain ⟨kC, hkC, -⟩ := Vm.findClass_spec h3
  refine ⟨cell, h1, h2, ⟨kC, hkC⟩, fun comp hc => ?_⟩
  obtain ⟨c0, t0, f1, f2, f3⟩ := Cond.castable_spec (va_Nw.use (A := #[]) rfl (pm_nC hw hK (hcs _ (pm_sh_in h))))
  cases h3.symm.trans f1
  cases hc.symm.trans f2
  exact f3
theorem ps_aastO {pre : pm_M → Nat → Prop} {len : pm_M → Nat → Nat} (hcs : ∀ k ∈ pm_kl, Cond.castable (pm_nm k) "java/lang/Object" ∈ lw_tbl) (hd : decode μ.2.1 pc = .ok (.aastore, 1)) (hg : ∀ S a, G S → pre S a → pm_hd S a = (111, len S a)) (hc : pm_S μ G d S0 Q (pc + 1) c) : pm_S μ G d S0 Q pc (pi_astO G pre len c) := by
  intro ls st S h
  unfold pi_astO at h
  split at h
  · rename_i v i a r
    intro w p l e s m args below meth c' X H locs rls hH hG hle hS hL
    obtain ⟨h1, h2, h3⟩ := hH.arr (t := 11) (hg S a hG h.1)
    rw [pm_acR (by decide)] at h3
    have hty := pm_tys_at w (show 11 < 12 by decide)
    refine va_astqM X.2.2.2.1 X.2.2.2.2.1 (pm_KX.K X.1 X.2.1) hH.1 (pm_ws_D w S) hS a 11 h3 hty (pm_any_o X.1 X.2.1 hH h.2.2.1 hcs) h.2.1 hd fun H1 locs1 hP1 _ hS1 => ?_
    have he := pm_ceA (w := w) (S := S) (S' := pm_sP S a (va_up (pm_P S a) i.toNatClampNeg (some v))) (a := a) (t := 11) (hg S a hG h.1) rfl (x := .inr (.inr (.inr (.inr (va_up (fun i => (pm_P S a i).map (pm_f w)) i.toNatClampNeg (some (pm_f w v))))))) (by rw [pm_acR (by decide)]; simp [pm_P, pm_sP, pm_upmap])
    rw [h2] at hP1
    have hP2 : va_P (pm_D w) pm_cl (pm_ws w (pm_sP S a (va_up (pm_P S a) i.toNatClampNeg (some v)))) H1 := by
      rw [pm_ws_set (S := S) (S' := pm_sP S a (va_up (pm_P S a) i.toNatClampNeg (some v))) (a := a) rfl (fun x hx => pm_ce_congr rfl rfl rfl (by simp [pm_P, pm_sP, hx])) he]
      exact hP1
    refine pm_sz (S := pm_sP S a (va_up (pm_P S a) i.toNatClampNeg (some v))) (S0 := S0) hP2 hS1 X.2.2.1 hle.1 fun hz => ?_
    exact hc _ _ _ h.2.2.2.2 w p l e s m args below meth c' X H1 locs1 rls (hH.sP he hP1 hz) (h.2.2.2.1 hG) hle hS1 hL
  · rename_i i a r
    intro w p l e s m args below meth c' X H locs rls hH hG hle hS hL
    obtain ⟨h1, h2, h3⟩ := hH.arr (t := 11) (hg S a hG h.1)
    rw [pm_acR (by decide)] at h3
    have hty := pm_tys_at w (show 11 < 12 by decide)
    refine va_astqN X.2.2.2.1 X.2.2.2.2.1 (pm_KX.K X.1 X.2.1) hH.1 (pm_ws_D w S) hS a 11 h3 hty h.2.1 hd fun H1 locs1 hP1 _ hS1 => ?_
    have he := pm_ceA (w := w) (S := S) (S' := pm_sP S a (va_up (pm_P S a) i.toNatClampNeg none)) (a := a) (t := 11) (hg S a hG h.1) rfl (x := .inr (.inr (.inr (.inr (va_up (fun i => (pm_P S a i).map (pm_f w)) i.toNatClampNeg none))))) (by rw [pm_acR (by decide)]; simp [pm_P, pm_sP, pm_upmap])
    rw [h2] at hP1
    have hP2 : va_P (pm_D w) pm_cl (pm_ws w (pm_sP S a (va_up (pm_P S a) i.toNatClampNeg none))) H1 := by
      rw [pm_ws_set (S := S) (S' := pm_sP S a (va_up (pm_P S a) i.toNatClampNeg none)) (a := a) rfl (fun x hx => pm_ce_congr rfl rfl rfl (by simp [pm_P, pm_sP, hx])) he]
      exact hP1
    refine pm_sz (S := pm_sP S a (va_up (pm_P S a) i.toNatClampNeg none)) (S0 := S0) hP2 hS1 X.2.2.1 hle.1 fun hz => ?_
    exact hc _ _ _ h.2.2.2 w p l e s m args below meth c' X H1 locs1 rls (hH.sP he hP1 hz) (h.2.2.1 hG) hle hS1 hL
  · exact h.elim
/-- System.arraycopy between two rows of one sort, whichever -/
def pi_cpD (c : pm_K) : pm_K := fun ls st S => match st with
  | .int n :: .int dp :: .ref a1 :: .int sp :: .ref a0 :: r => ∃ t n0 n1, t < 5 ∧ pm_hd S a0 = (100 + t, n0) ∧ pm_hd S a1 = (100 + t, n1) ∧ (¬ sp < 0 ∧ ¬ dp < 0 ∧ ¬ n < 0 ∧ sp.toNatClampNeg + n.toNatClampNeg ≤ n0 ∧ dp.toNatClampNeg + n.toNatClampNeg ≤ n1 ∧ (r.map fun v => v.category).sum ≤ 24) ∧
      (¬ t = 1 → (∀ i, i < n.toNatClampNeg → fits (pm_ty t) (.int (pm_I S a0 (sp.toNatClampNeg + i))) = true) ∧ c ls r (pm_sI S a1 (va_cpy (pm_I S a0) (pm_I S a1) sp.toNatClampNeg dp.toNatClampNeg n.toNatClampNeg))) ∧
      (t = 1 → c ls r (pm_sL S a1 (va_cpy (pm_L S a0) (pm_L S a1) sp.toNatClampNeg dp.toNatClampNeg n.toNatClampNeg)))
  | _ => False
theorem ps_cpD {idx : Nat} (hd : decode μ.2.1 pc = .ok (.invokestatic idx, 3)) (hl : Cond.methodLink μ.1.cls idx arraycopyName ∈ lw_all) (hnat : Cond.native arraycopyName ∈ lw_all) (hs : Cond.static arraycopyName ∈ lw_all) (hi : Cond.initialized "java/lang/System" ∈ lw_all) (hd1 : 0 < d) (hGs : pm_Gs G) (hc : pm_S μ G d S0 Q (pc + 3) c) : pm_S μ G d S0 Q pc (pi_cpD c) := by
  intro ls st S h
  unfold pi_cpD at h
  split at h
  · rename_i n dp a1 sp a0 r
    intro w p l e s m args below meth c' X H locs rls hH hG hle hS hL
    obtain ⟨t, n0, n1, k0, k1, k2, ⟨k3, k4, k5, k6, k7, k8⟩, hh1, hh2⟩ := h
    by_cases ht : t = 1
    · subst ht
      obtain ⟨f1, f2, f3⟩ := hH.arr (t := 1) k1
      obtain ⟨g1, g2, g3⟩ := hH.arr (t := 1) k2
      refine va_copyl X.2.2.2.1 X.2.2.2.2.1 (by rw [X.2.2.2.2.2.1]; exact hL.1.symm) X.2.2.2.2.2.2.2.1 (pm_word X.1 X.2.1 hl _) (pm_word X.1 X.2.1 hnat _) (pm_word X.1 X.2.1 hs _) (pm_word X.1 X.2.1 hi _) (pm_KX.K X.1 X.2.1) hH.1 (pm_ws_D w S) hS a0 a1 1 1 f3 g3 (pm_tys_at w (by decide)) (pm_tys_at w (by decide)) rfl k3 k4 k5 k6 k7 (fun _ _ => rfl) (show 1 ≤ d from hd1) (show _ + (7 + 11) ≤ 64 * d by rw [pm_cats]; omega) hd fun H1 locs1 hP1 _ hS1 => ?_
      have he := pm_ceA (w := w) (S := S) (S' := pm_sL S a1 (va_cpy (pm_L S a0) (pm_L S a1) sp.toNatClampNeg dp.toNatClampNeg n.toNatClampNeg)) (a := a1) (t := 1) k2 rfl (x := .inr (.inl (va_cpy (pm_L S a0) (pm_L S a1) sp.toNatClampNeg dp.toNatClampNeg n.toNatClampNeg))) (by simp [pm_ac, pm_L, pm_sL])
      rw [g2] at hP1
      have hP2 : va_P (pm_D w) pm_cl (pm_ws w (pm_sL S a1 (va_cpy (pm_L S a0) (pm_L S a1) sp.toNatClampNeg dp.toNatClampNeg n.toNatClampNeg))) H1 := by
        rw [pm_ws_set (S := S) (S' := pm_sL S a1 (va_cpy (pm_L S a0) (pm_L S a1) sp.toNatClampNeg dp.toNatClampNeg n.toNatClampNeg)) (a := a1) rfl (fun x hx => pm_ce_congr rfl rfl (by simp [pm_L, pm_sL, hx]) rfl) he]
        exact hP1
      refine pm_sz (S := pm_sL S a1 (va_cpy (pm_L S a0) (pm_L S a1) sp.toNatClampNeg dp.toNatClampNeg n.toNatClampNeg)) (S0 := S0) hP2 hS1 X.2.2.1 hle.1 fun hz => ?_
      exact hc _ _ _ (hh2 rfl) w p l e s m args below meth c' X H1 locs1 rls (hH.sL he hP1 hz) (hGs.2.1 _ _ _ hG) hle hS1 hL
    · exact pm_cpI_step k0 ht X hH hG hle hS hL hGs hd hl hnat hs hi hd1 k1 k2 k3 k4 k5 k6 k7 (hh1 ht).1 k8 (hc _ _ _ (hh1 ht).2)
  · exact h.elim
/-- a static of the JDK's: null, or some object outside -/
def pi_gst (k : Nat) (c : pm_K) : pm_K := fun ls st S => c ls (.null :: st) S ∧ c ls (.ref (1000000 + k) :: st) S
theorem ps_gst1 {idx : Nat} (hd : decode μ.2.1 pc = .ok (.getstatic idx, 3)) (hl : Cond.fieldLink μ.1.cls idx "java/lang/Throwable" "UNASSIGNED_STACK" "[Ljava/lang/StackTraceElement;" ∈ lw_all) (hc : pm_S μ G d S0 Q (pc + 3) c) : pm_S μ G d S0 Q pc (pi_gst 1 c) := by
  intro ls st S h w p l e s m args below meth c' X H locs rls hH hG hle hS hL
  rcases X.1.2.2.2.2.2.1 with hz | hz
  · exact va_gets (A := pm_A w) X.2.2.2.1 X.2.2.2.2.1 (va_Z.kept (va_Z.moved X.2.1.1.alike hz) (fun a h1 h2 => X.2.1.2.2 a h1)) hS X.2.2.2.2.2.2.2.1 (pm_word X.1 X.2.1 hl _) (fun _ hx => hx) hd (hc _ _ _ h.1 w p l e s m args below meth c' X H locs rls hH hG hle hS hL)
  · exact va_gets (A := pm_A w) X.2.2.2.1 X.2.2.2.2.1 (va_Z.kept (va_Z.moved X.2.1.1.alike hz) (fun a h1 h2 => X.2.1.2.2 a h1)) hS X.2.2.2.2.2.2.2.1 (pm_word X.1 X.2.1 hl _) (fun _ hx => hx) hd (hc _ _ _ h.2 w p l e s m args below meth c' X H locs rls hH hG hle hS hL)
theorem ps_gst2 {idx : Nat} (hd : decode μ.2.1 pc = .ok (.getstatic idx, 3)) (hl : Cond.fieldLink μ.1.cls idx "java/lang/Throwable" "SUPPRESSED_SENTINEL" "Ljava/util/List;" ∈ lw_all) (hc : pm_S μ G d S0 Q (pc + 3) c) : pm_S μ G d S0 Q pc (pi_gst 2 c) := by
  intro ls st S h w p l e s m args below meth c' X H locs rls hH hG hle hS hL
  rcases X.1.2.2.2.2.2.2 with hz | hz
  · exact va_gets (A := pm_A w) X.2.2.2.1 X.2.2.2.2.1 (va_Z.kept (va_Z.moved X.2.1.1.alike hz) (fun a h1 h2 => X.2.1.2.2 a h1)) hS X.2.2.2.2.2.2.2.1 (pm_word X.1 X.2.1 hl _) (fun _ hx => hx) hd (hc _ _ _ h.1 w p l e s m args below meth c' X H locs rls hH hG hle hS hL)
  · exact va_gets (A := pm_A w) X.2.2.2.1 X.2.2.2.2.1 (va_Z.kept (va_Z.moved X.2.1.1.alike hz) (fun a h1 h2 => X.2.1.2.2 a h1)) hS X.2.2.2.2.2.2.2.1 (pm_word X.1 X.2.1 hl _) (fun _ hx => hx) hd (hc _ _ _ h.2 w p l e s m args below meth c' X H locs rls hH hG hle hS hL)
end PSH
theorem pm_cso : ∀ k ∈ pm_kl, Cond.castable (pm_nm k) "java/lang/Object" ∈ lw_tbl := List.forall_mem_cons.mpr ⟨q1956, List.forall_mem_cons.mpr ⟨q1949, List.forall_mem_cons.mpr ⟨q1950, List.forall_mem_cons.mpr ⟨q1951, List.forall_mem_cons.mpr ⟨q1952, List.forall_mem_cons.mpr ⟨q1953, List.forall_mem_cons.mpr ⟨q1954, List.forall_mem_cons.mpr ⟨q1955, List.forall_mem_cons.mpr ⟨q1959, List.forall_mem_cons.mpr ⟨q1968, List.forall_mem_cons.mpr ⟨q1966, List.forall_mem_cons.mpr ⟨q1967, List.forall_mem_cons.mpr ⟨q1969, fun _ h => absurd h List.not_mem_nil⟩⟩⟩⟩⟩⟩⟩⟩⟩⟩⟩⟩⟩
