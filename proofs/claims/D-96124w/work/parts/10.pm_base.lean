/-! ===== pm_: a pure memory (heads, ints, longs, references), and its picture in the heap ===== -/
set_option maxRecDepth 100000
abbrev pm_M : Type := (Nat → Nat × Nat) × (Nat → Nat → Int32) × (Nat → Nat → Int64) × (Nat → Nat → Option Nat) × Nat × Nat
def pm_hd (S : pm_M) (a : Nat) : Nat × Nat := S.1 a
def pm_I (S : pm_M) (a : Nat) : Nat → Int32 := S.2.1 a
def pm_L (S : pm_M) (a : Nat) : Nat → Int64 := S.2.2.1 a
def pm_P (S : pm_M) (a : Nat) : Nat → Option Nat := S.2.2.2.1 a
def pm_n (S : pm_M) : Nat := S.2.2.2.2.1
def pm_sl (S : pm_M) : Nat := S.2.2.2.2.2
def pm_sI (S : pm_M) (a : Nat) (f : Nat → Int32) : pm_M := (S.1, fun x => if x = a then f else S.2.1 x, S.2.2)
def pm_sL (S : pm_M) (a : Nat) (f : Nat → Int64) : pm_M := (S.1, S.2.1, fun x => if x = a then f else S.2.2.1 x, S.2.2.2)
def pm_sP (S : pm_M) (a : Nat) (f : Nat → Option Nat) : pm_M := (S.1, S.2.1, S.2.2.1, fun x => if x = a then f else S.2.2.2.1 x, S.2.2.2.2)
def pm_al (S : pm_M) (k len sl : Nat) : pm_M := (fun x => if x = S.2.2.2.2.1 then (k, len) else S.1 x, fun x => if x = S.2.2.2.2.1 then (fun _ => 0) else S.2.1 x, fun x => if x = S.2.2.2.2.1 then (fun _ => 0) else S.2.2.1 x, fun x => if x = S.2.2.2.2.1 then (fun _ => none) else S.2.2.2.1 x, S.2.2.2.2.1 + 1, S.2.2.2.2.2 + sl)
/-- the state at the law's start, addresses outside, classes, array classes, the script -/
abbrev pm_W : Type := State × (Nat → Nat) × va_G × (Nat → ClassId) × Nat × (Nat → Int32)
def pm_D (w : pm_W) : va_G := w.2.2.1
def pm_tc (w : pm_W) : Nat → ClassId := w.2.2.2.1
def pm_b (w : pm_W) : Nat := w.1.heap.size
def pm_x (w : pm_W) : Nat → Nat := w.2.1
def pm_f (w : pm_W) (a : Nat) : Nat := if a < 1000000 then pm_b w + a else pm_x w (a - 1000000)
def pm_v (w : pm_W) : Value → Value
  | .ref a => .ref (pm_f w a)
  | v => v
def pm_r (w : pm_W) : Option Nat → Value
  | none => .null
  | some a => .ref (pm_f w a)
def pm_o (w : pm_W) : Outcome → Outcome
  | .returned v => .returned (v.map (pm_v w))
  | .threw a => .threw (pm_f w a)
def pm_A (w : pm_W) : Nat → Prop := fun q => pm_b w ≤ q
def pm_ty (t : Nat) : FieldType := match t with
  | 0 => .int | 1 => .long | 2 => .byte | 3 => .short | 4 => .boolean
  | 5 => .object "HatRank$Change" | 6 => .object "HatRank$Held" | 7 => .object "HatRank$Town" | 8 => .object "HatRank$Place"
  | 9 => .object "HatRank$Person" | 10 => .object "HatRank$Body" | _ => .object "java/lang/Object"
def pm_tys (w : pm_W) : List (ClassId × FieldType) := (List.range 12).map fun t => (pm_tc w t, pm_ty t)
theorem pm_tys_at (w : pm_W) {t : Nat} (h : t < 12) : (pm_tys w)[t]? = some (pm_tc w t, pm_ty t) := by
  simp [pm_tys, h]
def pm_cl : List vw_C := [(RX0, TX0, 36), (RX1, TX1, 6), (RX2, TX2, 3), (RX3, TX3, 6), (RX4, TX4, 3), (RX5, TX5, 1), (RX6, TX6, 63), (RX7, TX7, 2), (RX8, TX8, 2), (RX9, TX9, 3), (RX5, TX5, 1), (RX11, TX11, 1), (RX12, TX12, 2), (RX13, TX13, 2), (RX14, TX14, 3), (RX15, TX15, 2), (RX16, TX15, 2), (RX17, TX15, 2), (RX18, TX15, 2), (RX19, TX15, 2), (RX20, TX15, 2), (RX21, TX15, 2), (RX22, TX15, 2)]
/-- of what kind a class's fields are: 0 an int, 1 a long, 2 a reference -/
def pm_ft (c : Nat) : List Nat := match c with
  | 0 => [2, 0, 0, 2, 0, 2, 0, 2, 2, 0, 0, 2, 0, 2, 0, 2, 2, 0, 2, 0, 0, 2, 2, 1, 1, 0, 0, 0, 0, 0, 2, 2, 0, 2, 0, 2]
  | 1 => [2, 2, 2, 2, 2, 0] | 2 => [2, 2, 2] | 3 => [2, 2, 2, 2, 2, 0] | 4 => [2, 0, 0] | 5 => [0]
  | 6 => [0, 0, 2, 0, 0, 2, 2, 2, 0, 2, 2, 0, 2, 2, 2, 2, 0, 0, 2, 2, 2, 2, 2, 0, 0, 0, 0, 0, 2, 2, 2, 2, 2, 2, 2, 0, 2, 2, 2, 2, 0, 2, 2, 2, 0, 0, 1, 1, 0, 0, 0, 0, 2, 2, 2, 0, 2, 0, 2, 2, 2, 2, 2]
  | 7 => [2, 0] | 8 => [2, 0] | 9 => [2, 2, 2] | 10 => [0] | 11 => [0] | 12 => [0, 2] | 13 => [0, 2] | 14 => [0, 2, 2] | _ => [0, 2]
def pm_fw (w : pm_W) (S : pm_M) (a k t : Nat) : Value := if t = 0 then .int (pm_I S a k) else if t = 1 then .long (pm_L S a k) else pm_r w (pm_P S a k)
def pm_fv (w : pm_W) (S : pm_M) (a : Nat) : Nat → List Nat → List Value
  | _, [] => []
  | k, t :: ts => pm_fw w S a k t :: pm_fv w S a (k + 1) ts
def pm_ac (w : pm_W) (S : pm_M) (a t : Nat) : (Nat → Int32) ⊕ (Nat → Int64) ⊕ (Nat → UInt32) ⊕ (Nat → UInt64) ⊕ (Nat → Option Nat) :=
  if t = 1 then .inr (.inl (pm_L S a)) else if t < 5 then .inl (pm_I S a) else .inr (.inr (.inr (.inr (fun i => (pm_P S a i).map (pm_f w)))))
def pm_ce (w : pm_W) (S : pm_M) (a : Nat) : va_E :=
  if (pm_hd S a).1 < 100 then .inr ((pm_hd S a).1, pm_fv w S a 0 (pm_ft (pm_hd S a).1)) else .inl (pm_tc w ((pm_hd S a).1 - 100), (pm_hd S a).2, pm_ac w S a ((pm_hd S a).1 - 100))
def pm_ws (w : pm_W) (S : pm_M) : va_W := (List.range (pm_n S)).map fun a => (pm_b w + a, pm_ce w S a)
theorem pm_ws_at {w : pm_W} {S : pm_M} {a : Nat} (h : a < pm_n S) : (pm_ws w S)[a]? = some (pm_b w + a, pm_ce w S a) := by
  simp [pm_ws, h]
theorem pm_ws_inv {w : pm_W} {S : pm_M} {a : Nat} {q : Nat × va_E} (h : (pm_ws w S)[a]? = some q) : a < pm_n S ∧ q = (pm_b w + a, pm_ce w S a) := by
  by_cases ha : a < pm_n S
  · rw [pm_ws_at ha] at h
    exact ⟨ha, (Option.some.inj h).symm⟩
  · simp [pm_ws, ha] at h
theorem pm_ws_len (w : pm_W) (S : pm_M) : (pm_ws w S).length = pm_n S := by simp [pm_ws]
theorem pm_ws_D (w : pm_W) (S : pm_M) : va_D (pm_A w) (pm_ws w S) := by
  refine ⟨fun i j p q hi hj h => ?_, fun k q hk => ?_⟩
  · obtain ⟨-, rfl⟩ := pm_ws_inv hi
    obtain ⟨-, rfl⟩ := pm_ws_inv hj
    have h : pm_b w + i = pm_b w + j := h
    omega
  · obtain ⟨-, rfl⟩ := pm_ws_inv hk
    exact Nat.le_add_right _ _
theorem pm_fv_len (w : pm_W) (S : pm_M) (a : Nat) : ∀ (ts : List Nat) (k : Nat), (pm_fv w S a k ts).length = ts.length
  | [], _ => rfl
  | t :: ts, k => by simp [pm_fv, pm_fv_len w S a ts (k + 1)]
theorem pm_fv_at (w : pm_W) (S : pm_M) (a : Nat) : ∀ (ts : List Nat) (k j : Nat), (pm_fv w S a k ts)[j]? = (ts[j]?).map (fun t => pm_fw w S a (k + j) t)
  | [], _, _ => rfl
  | t :: ts, k, 0 => by simp [pm_fv]
  | t :: ts, k, j + 1 => by
    simp only [pm_fv, List.getElem?_cons_succ]
    rw [pm_fv_at w S a ts (k + 1) j]
    congr 2
    funext t
    congr 1
    omega
theorem pm_fv_congr {w : pm_W} {S S' : pm_M} {a : Nat} (hI : pm_I S' a = pm_I S a) (hL : pm_L S' a = pm_L S a) (hP : pm_P S' a = pm_P S a) (ts : List Nat) (k : Nat) : pm_fv w S' a k ts = pm_fv w S a k ts := by
  induction ts generalizing k with
  | nil => rfl
  | cons t ts ih => simp only [pm_fv, pm_fw, hI, hL, hP, ih]
theorem pm_ce_congr {w : pm_W} {S S' : pm_M} {a : Nat} (hh : pm_hd S' a = pm_hd S a) (hI : pm_I S' a = pm_I S a) (hL : pm_L S' a = pm_L S a) (hP : pm_P S' a = pm_P S a) : pm_ce w S' a = pm_ce w S a := by
  simp only [pm_ce, hh, pm_fv_congr hI hL hP, pm_ac, hI, hL, hP]
theorem pm_ws_set {w : pm_W} {S S' : pm_M} {a : Nat} {e : va_E} (hn : pm_n S' = pm_n S) (ho : ∀ x, x ≠ a → pm_ce w S' x = pm_ce w S x) (he : pm_ce w S' a = e) : pm_ws w S' = (pm_ws w S).set a (pm_b w + a, e) := by
  apply List.ext_getElem?
  intro i
  by_cases hi : i < pm_n S
  · rw [pm_ws_at (S := S') (by rw [hn]; exact hi)]
    by_cases h : i = a
    · subst h
      rw [List.getElem?_set_self (by rw [pm_ws_len]; exact hi), he]
    · rw [List.getElem?_set_ne (Ne.symm h), pm_ws_at hi, ho i h]
  · have h1 : (pm_ws w S')[i]? = none := by simp [pm_ws, hn, hi]
    have h2 : ((pm_ws w S).set a (pm_b w + a, e))[i]? = none := by
      apply List.getElem?_eq_none
      rw [List.length_set, pm_ws_len]
      omega
    rw [h1, h2]
theorem pm_ws_push {w : pm_W} {S S' : pm_M} {e : va_E} (hn : pm_n S' = pm_n S + 1) (ho : ∀ x, x < pm_n S → pm_ce w S' x = pm_ce w S x) (he : pm_ce w S' (pm_n S) = e) : pm_ws w S' = pm_ws w S ++ [(pm_b w + pm_n S, e)] := by
  apply List.ext_getElem?
  intro i
  by_cases hi : i < pm_n S
  · rw [pm_ws_at (S := S') (by omega), List.getElem?_append_left (by rw [pm_ws_len]; exact hi), pm_ws_at hi, ho i hi]
  · rw [List.getElem?_append_right (by rw [pm_ws_len]; omega), pm_ws_len]
    by_cases h : i = pm_n S
    · subst h
      rw [pm_ws_at (S := S') (by omega), he]
      simp
    · have h1 : (pm_ws w S')[i]? = none := by
        simp only [pm_ws, hn]
        apply List.getElem?_eq_none
        simp
        omega
      rw [h1, List.getElem?_eq_none (by simp; omega)]
/-- the memory S is in the heap H -/
def pm_HR (w : pm_W) (S : pm_M) (H : Heap) : Prop := va_P (pm_D w) pm_cl (pm_ws w S) H ∧ H.size = pm_b w + pm_n S ∧ (pm_n S ≤ 900000 ∧ pm_sl S ≤ 6000000) ∧ (∀ a, pm_n S ≤ a → 50 ≤ (pm_hd S a).1 ∧ (pm_hd S a).1 < 100) ∧ pm_hd S 1000000 = (98, w.2.2.2.2.1) ∧ pm_I S 1000000 = w.2.2.2.2.2
theorem pm_HR.obj {w : pm_W} {S : pm_M} {H : Heap} {a c : Nat} (h : pm_HR w S H) (hc : (pm_hd S a).1 = c) (hc2 : c < 50) : a < pm_n S ∧ pm_f w a = pm_b w + a ∧ (pm_ws w S)[a]? = some (pm_f w a, .inr (c, pm_fv w S a 0 (pm_ft c))) := by
  have h1 : a < pm_n S := by
    rcases Nat.lt_or_ge a (pm_n S) with q | q
    · exact q
    · have := (h.2.2.2.1 a q).1
      omega
  have h2 : pm_f w a = pm_b w + a := by
    have := h.2.2.1.1
    simp only [pm_f]
    rw [if_pos (by omega)]
  refine ⟨h1, h2, ?_⟩
  rw [pm_ws_at h1, h2]
  simp only [pm_ce, hc]
  rw [if_pos (by omega)]
theorem pm_HR.arr {w : pm_W} {S : pm_M} {H : Heap} {a t n : Nat} (h : pm_HR w S H) (hc : pm_hd S a = (100 + t, n)) : a < pm_n S ∧ pm_f w a = pm_b w + a ∧ (pm_ws w S)[a]? = some (pm_f w a, .inl (pm_tc w t, n, pm_ac w S a t)) := by
  have h1 : a < pm_n S := by
    rcases Nat.lt_or_ge a (pm_n S) with q | q
    · exact q
    · have := (h.2.2.2.1 a q).2
      rw [hc] at this
      simp only at this
      omega
  have h2 : pm_f w a = pm_b w + a := by
    have := h.2.2.1.1
    simp only [pm_f]
    rw [if_pos (by omega)]
  refine ⟨h1, h2, ?_⟩
  rw [pm_ws_at h1, h2]
  simp only [pm_ce, hc]
  rw [if_neg (by omega), show 100 + t - 100 = t by omega]
