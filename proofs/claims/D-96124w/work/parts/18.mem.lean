/-! ===== reading and writing the pure memory ===== -/
section MEM
variable {S : pm_M} {a b k n sl : Nat} {f g : Nat → Int32} {fl gl : Nat → Int64} {fp gp : Nat → Option Nat}
theorem mI_sI : pm_I (pm_sI S a f) a = f := by simp [pm_I, pm_sI]
theorem mI_sI' (h : ¬ b = a) : pm_I (pm_sI S a f) b = pm_I S b := by simp [pm_I, pm_sI, h]
theorem mI_sL : pm_I (pm_sL S a fl) b = pm_I S b := rfl
theorem mI_sP : pm_I (pm_sP S a fp) b = pm_I S b := rfl
theorem mL_sI : pm_L (pm_sI S a f) b = pm_L S b := rfl
theorem mL_sL : pm_L (pm_sL S a fl) a = fl := by simp [pm_L, pm_sL]
theorem mL_sL' (h : ¬ b = a) : pm_L (pm_sL S a fl) b = pm_L S b := by simp [pm_L, pm_sL, h]
theorem mL_sP : pm_L (pm_sP S a fp) b = pm_L S b := rfl
theorem mP_sI : pm_P (pm_sI S a f) b = pm_P S b := rfl
theorem mP_sL : pm_P (pm_sL S a fl) b = pm_P S b := rfl
theorem mP_sP : pm_P (pm_sP S a fp) a = fp := by simp [pm_P, pm_sP]
theorem mP_sP' (h : ¬ b = a) : pm_P (pm_sP S a fp) b = pm_P S b := by simp [pm_P, pm_sP, h]
theorem mh_sI : pm_hd (pm_sI S a f) b = pm_hd S b := rfl
theorem mh_sL : pm_hd (pm_sL S a fl) b = pm_hd S b := rfl
theorem mh_sP : pm_hd (pm_sP S a fp) b = pm_hd S b := rfl
theorem mn_sI : pm_n (pm_sI S a f) = pm_n S := rfl
theorem mn_sL : pm_n (pm_sL S a fl) = pm_n S := rfl
theorem mn_sP : pm_n (pm_sP S a fp) = pm_n S := rfl
theorem ms_sI : pm_sl (pm_sI S a f) = pm_sl S := rfl
theorem ms_sL : pm_sl (pm_sL S a fl) = pm_sl S := rfl
theorem ms_sP : pm_sl (pm_sP S a fp) = pm_sl S := rfl
theorem ss_II : pm_sI (pm_sI S a f) a g = pm_sI S a g := by
  unfold pm_sI
  congr 2
  funext x
  by_cases h : x = a <;> simp [h]
theorem ss_II' (h : b < a) : pm_sI (pm_sI S a f) b g = pm_sI (pm_sI S b g) a f := by
  unfold pm_sI
  congr 2
  funext x
  by_cases h1 : x = a
  · have : ¬ x = b := by omega
    simp [h1]
    omega
  · simp [h1]
theorem ss_LL : pm_sL (pm_sL S a fl) a gl = pm_sL S a gl := by
  unfold pm_sL
  congr 3
  funext x
  by_cases h : x = a <;> simp [h]
theorem ss_PP : pm_sP (pm_sP S a fp) a gp = pm_sP S a gp := by
  unfold pm_sP
  congr 4
  funext x
  by_cases h : x = a <;> simp [h]
theorem ss_LI : pm_sI (pm_sL S a fl) b f = pm_sL (pm_sI S b f) a fl := rfl
theorem ss_PI : pm_sI (pm_sP S a fp) b f = pm_sP (pm_sI S b f) a fp := rfl
theorem ss_PL : pm_sL (pm_sP S a fp) b fl = pm_sP (pm_sL S b fl) a fp := rfl
theorem ss_Is : pm_sI S a (pm_I S a) = S := by
  unfold pm_sI
  obtain ⟨h, i, r⟩ := S
  congr 2
  funext x
  by_cases e : x = a
  · simp [e, pm_I]
  · simp [e]
theorem mI_al : pm_I (pm_al S k n sl) (pm_n S) = fun _ => 0 := by
  have e : S.2.2.2.2.1 = pm_n S := rfl
  simp [pm_I, pm_al, e]
theorem mL_al : pm_L (pm_al S k n sl) (pm_n S) = fun _ => 0 := by
  have e : S.2.2.2.2.1 = pm_n S := rfl
  simp [pm_L, pm_al, e]
theorem mP_al : pm_P (pm_al S k n sl) (pm_n S) = fun _ => none := by
  have e : S.2.2.2.2.1 = pm_n S := rfl
  simp [pm_P, pm_al, e]
theorem mh_al : pm_hd (pm_al S k n sl) (pm_n S) = (k, n) := by
  have e : S.2.2.2.2.1 = pm_n S := rfl
  simp [pm_hd, pm_al, e]
theorem mI_al' (h : ¬ b = pm_n S) : pm_I (pm_al S k n sl) b = pm_I S b := by
  have e : S.2.2.2.2.1 = pm_n S := rfl
  simp [pm_I, pm_al, e, h]
theorem mL_al' (h : ¬ b = pm_n S) : pm_L (pm_al S k n sl) b = pm_L S b := by
  have e : S.2.2.2.2.1 = pm_n S := rfl
  simp [pm_L, pm_al, e, h]
theorem mP_al' (h : ¬ b = pm_n S) : pm_P (pm_al S k n sl) b = pm_P S b := by
  have e : S.2.2.2.2.1 = pm_n S := rfl
  simp [pm_P, pm_al, e, h]
theorem mh_al' (h : ¬ b = pm_n S) : pm_hd (pm_al S k n sl) b = pm_hd S b := by
  have e : S.2.2.2.2.1 = pm_n S := rfl
  simp [pm_hd, pm_al, e, h]
theorem mn_al : pm_n (pm_al S k n sl) = pm_n S + 1 := rfl
theorem ms_al : pm_sl (pm_al S k n sl) = pm_sl S + sl := rfl
theorem up_s {x : Int32} : upd f k x k = x := by simp [upd]
theorem up_n {x : Int32} {j : Nat} (h : ¬ j = k) : upd f k x j = f j := by simp [upd, h]
theorem up_u {x y : Int32} : upd (upd f k x) k y = upd f k y := by
  funext j
  by_cases h : j = k <;> simp [upd, h]
theorem up_c {x y : Int32} {j : Nat} (h : j < k) : upd (upd f k x) j y = upd (upd f j y) k x := by
  funext i
  by_cases h1 : i = k
  · have : ¬ i = j := by omega
    simp [upd, h1]
    omega
  · simp [upd, h1]
theorem ul_s {x : Int64} : vp_updL fl k x k = x := by simp [vp_updL]
theorem ul_n {x : Int64} {j : Nat} (h : ¬ j = k) : vp_updL fl k x j = fl j := by simp [vp_updL, h]
theorem ua_s {x : Option Nat} : va_up fp k x k = x := by simp [va_up]
theorem ua_n {x : Option Nat} {j : Nat} (h : ¬ j = k) : va_up fp k x j = fp j := by simp [va_up, h]
end MEM
/-- a walk may use the invariant -/
theorem pm_V.G {μ : pm_Mt} {G : pm_M → Prop} {d : Nat} {S0 : pm_M} {Q : Outcome → pm_M → Prop} {pc : Nat} {ls : List (Option Value)} {st : List Value} {S : pm_M} (h : G S → pm_V μ G d S0 Q pc ls st S) : pm_V μ G d S0 Q pc ls st S :=
  fun w p l e s m args below meth c X H locs rls hH hG hle hS hL => h hG w p l e s m args below meth c X H locs rls hH hG hle hS hL
theorem pm_C.G {μ : pm_Mt} {G : pm_M → Prop} {d : Nat} {av : List Value} {S : pm_M} {Q : Outcome → pm_M → Prop} (h : G S → pm_C G d μ av S Q) : pm_C G d μ av S Q :=
  fun w l hw hG => h hG w l hw hG
