/-! ===== pi_, ps_: fields, arrays, new ===== -/
set_option maxRecDepth 100000
section PM
variable {μ : pm_Mt} {G : pm_M → Prop} {d : Nat} {S0 : pm_M} {Q : Outcome → pm_M → Prop} {pc : Nat} {c : pm_K}
theorem pm_sz {w : pm_W} {S S0 : pm_M} {p : Program} {l : Launch} {e : Env} {R : Room} {s : State} {m : MethodId} {args : Array Value} {below : List Frame} {meth : Method} {c : Code} {H : Heap} {locs : List Loc} {slots : Nat} {Z : State → Prop} {g : JFrame}
    (hP : va_P (pm_D w) pm_cl (pm_ws w S) H) (hS : va_S (pm_A w) s.heap H locs) (hs : s.heap.size = pm_b w + pm_n S0) (hle : pm_n S0 ≤ pm_n S) (k : H.size = pm_b w + pm_n S → W p l e R s m args below meth c H locs (pm_n S - pm_n S0) slots Z g) :
    W p l e R s m args below meth c H locs (pm_n S - pm_n S0) slots Z g := by
  intro T hT X
  refine k ?_ T hT X
  have h1 := X.heapSize
  rw [hT] at h1
  have h2 := hS.1
  rcases Nat.eq_zero_or_pos (pm_n S) with h | h
  · omega
  · have h3 := (hP (pm_n S - 1) _ (pm_ws_at (w := w) (S := S) (a := pm_n S - 1) (by omega))).lt
    simp only at h3
    omega
theorem pm_HR.sI {w : pm_W} {S : pm_M} {H H1 : Heap} {a : Nat} {f : Nat → Int32} {e : va_E} (h : pm_HR w S H) (ha : a < pm_n S) (he : pm_ce w (pm_sI S a f) a = e) (hP : va_P (pm_D w) pm_cl ((pm_ws w S).set a (pm_b w + a, e)) H1) (hz : H1.size = pm_b w + pm_n S) : pm_HR w (pm_sI S a f) H1 := by
  refine ⟨?_, hz, h.2.2.1, h.2.2.2.1, h.2.2.2.2.1, ?_⟩
  · rw [pm_ws_set (S := S) (S' := pm_sI S a f) (a := a) (e := e) rfl (fun x hx => pm_ce_congr rfl (by simp [pm_I, pm_sI, hx]) rfl rfl) he]
    exact hP
  · rw [← h.2.2.2.2.2]
    have := h.2.2.1.1
    simp only [pm_I, pm_sI]
    rw [if_neg (by omega)]
theorem pm_HR.sL {w : pm_W} {S : pm_M} {H H1 : Heap} {a : Nat} {f : Nat → Int64} {e : va_E} (h : pm_HR w S H) (he : pm_ce w (pm_sL S a f) a = e) (hP : va_P (pm_D w) pm_cl ((pm_ws w S).set a (pm_b w + a, e)) H1) (hz : H1.size = pm_b w + pm_n S) : pm_HR w (pm_sL S a f) H1 := by
  refine ⟨?_, hz, h.2.2.1, h.2.2.2.1, h.2.2.2.2.1, h.2.2.2.2.2⟩
  rw [pm_ws_set (S := S) (S' := pm_sL S a f) (a := a) (e := e) rfl (fun x hx => pm_ce_congr rfl rfl (by simp [pm_L, pm_sL, hx]) rfl) he]
  exact hP
theorem pm_HR.sP {w : pm_W} {S : pm_M} {H H1 : Heap} {a : Nat} {f : Nat → Option Nat} {e : va_E} (h : pm_HR w S H) (he : pm_ce w (pm_sP S a f) a = e) (hP : va_P (pm_D w) pm_cl ((pm_ws w S).set a (pm_b w + a, e)) H1) (hz : H1.size = pm_b w + pm_n S) : pm_HR w (pm_sP S a f) H1 := by
  refine ⟨?_, hz, h.2.2.1, h.2.2.2.1, h.2.2.2.2.1, h.2.2.2.2.2⟩
  rw [pm_ws_set (S := S) (S' := pm_sP S a f) (a := a) (e := e) rfl (fun x hx => pm_ce_congr rfl rfl rfl (by simp [pm_P, pm_sP, hx])) he]
  exact hP
theorem pm_HR.al {w : pm_W} {S : pm_M} {H H1 : Heap} {k len sl : Nat} {e : va_E} (h : pm_HR w S H) (hn : pm_n S < 900000) (hl : pm_sl S + sl ≤ 6000000) (he : pm_ce w (pm_al S k len sl) (pm_n S) = e) (hP : va_P (pm_D w) pm_cl (pm_ws w S ++ [(pm_b w + pm_n S, e)]) H1) (hz : H1.size = pm_b w + pm_n S + 1) : pm_HR w (pm_al S k len sl) H1 := by
  have hne : ∀ x, x < pm_n S → pm_ce w (pm_al S k len sl) x = pm_ce w S x := fun x hx => by
    have hx' : ¬ x = S.2.2.2.2.1 := Nat.ne_of_lt hx
    exact pm_ce_congr (by simp [pm_hd, pm_al, hx']) (by simp [pm_I, pm_al, hx']) (by simp [pm_L, pm_al, hx']) (by simp [pm_P, pm_al, hx'])
  refine ⟨?_, by rw [hz]; rfl, ?_, fun a ha => ?_, ?_, ?_⟩
  · rw [pm_ws_push (S := S) (S' := pm_al S k len sl) (e := e) rfl hne he]
    exact hP
  · exact ⟨hn, hl⟩
  · have ha : pm_n S + 1 ≤ a := ha
    have hx' : ¬ a = S.2.2.2.2.1 := Nat.ne_of_gt ha
    have : pm_hd (pm_al S k len sl) a = pm_hd S a := by simp [pm_hd, pm_al, hx']
    rw [this]
    exact h.2.2.2.1 a (by omega)
  · have hx' : ¬ 1000000 = S.2.2.2.2.1 := by
      have : pm_n S = S.2.2.2.2.1 := rfl
      omega
    rw [← h.2.2.2.2.1]
    simp only [pm_hd, pm_al]
    rw [if_neg hx']
  · have hx' : ¬ 1000000 = S.2.2.2.2.1 := by
      have : pm_n S = S.2.2.2.2.1 := rfl
      omega
    rw [← h.2.2.2.2.2]
    simp only [pm_I, pm_al]
    rw [if_neg hx']
/-- what is known of a field: class ci has C, T, N; its k-th field is of kind t -/
def pm_Fk (ci k t : Nat) (C : String) (T : u_T) (N : Nat) (ref : String) : Prop := pm_cl[ci]? = some (C, T, N) ∧ ci < 50 ∧ (∀ x ∈ u_ws C T N, x ∈ lw_all) ∧ k < N ∧ (pm_ft ci)[k]? = some t ∧ (T k).1 = ref ∧ (pm_ft ci).length = N
theorem pm_fv_k {w : pm_W} {S : pm_M} {a ci k t : Nat} {ft : List Nat} (h : ft[k]? = some t) : (pm_fv w S a 0 ft)[k]? = some (pm_fw w S a k t) := by
  rw [pm_fv_at, h]
  simp
def pm_nest {w : pm_W} {U : State} (_ : pm_WOK w) (_ : pm_KX w U) : Prop := True
theorem pm_nF {w : pm_W} {U : State} (hw : pm_WOK w) (hK : pm_KX w U) {a : String} {i : Nat} {b n f h : String} (hx : Cond.fieldLinkNest a i b n f h ∈ lw_tbl) (A : Array Value) : (Cond.fieldLinkNest a i b n f h).before A U = true :=
  va_Nw.use rfl (va_Nw.warmF hK.1 (va_Nw.of rfl (hw.1 _ hx)))
theorem pm_nC {w : pm_W} {U : State} (hw : pm_WOK w) (hK : pm_KX w U) {a b : String} (hx : Cond.castable a b ∈ lw_tbl) : va_Nw (Cond.castable a b) U := va_Nw.warmC hK.1 (va_Nw.of rfl (hw.1 _ hx))
theorem pm_nO {w : pm_W} {U : State} (hw : pm_WOK w) (hK : pm_KX w U) {C : String} (hx : Cond.arrayOver (.object C) ∈ lw_tbl) : va_AO C U := va_AO.moved hK.1.alike (va_AO.of (hw.1 _ hx))
theorem pm_nNc {w : pm_W} {U : State} (hw : pm_WOK w) (hK : pm_KX w U) {a b : String} (hx : Cond.not (Cond.castable a b) ∈ flatC narrow_1) : va_Nc a b U := va_Nc.moved hK.1.alike (va_Nc.of (hw.2.1 _ hx))

def pi_gI (pre : pm_M → Nat → Prop) (k : Nat) (c : pm_K) : pm_K := fun ls st S => match st with
  | .ref a :: r => pre S a ∧ c ls (.int (pm_I S a k) :: r) S
  | _ => False
theorem ps_gI {pre : pm_M → Nat → Prop} {C ref : String} {T : u_T} {N ci k idx : Nat} (hf : pm_Fk ci k 0 C T N ref) (hlink : Cond.fieldLink μ.1.cls idx ref (T k).2.1 (T k).2.2.1 ∈ lw_all) (hd : decode μ.2.1 pc = .ok (.getfield idx, 3)) (hg : ∀ S a, G S → pre S a → (pm_hd S a).1 = ci) (hc : pm_S μ G d S0 Q (pc + 3) c) : pm_S μ G d S0 Q pc (pi_gI pre k c) := by
  intro ls st S h
  unfold pi_gI at h
  split at h
  · rename_i a r
    intro w p l e s m args below meth c' X H locs rls hH hG hle hS hL
    obtain ⟨hcl, hci, hin, hk, hft, href, -⟩ := hf
    obtain ⟨h1, h2, h3⟩ := hH.obj (hg S a hG h.1) hci
    exact va_get (D := pm_D w) (cl := pm_cl) (C := C) (T := T) (N := N) (own := μ.1.cls) X.2.2.2.1 X.2.2.2.2.1 (pm_words X.1 X.2.1 args) hin X.2.2.2.2.2.2.2.1 (pm_KX.K X.1 X.2.1) hH.1 a h3 hcl k hk (pm_word X.1 X.2.1 hlink _) (fun x hx => by rw [← href]; exact hx) (pm_fv_k (ci := ci) hft) hd (hc _ _ _ h.2 w p l e s m args below meth c' X H locs rls hH hG hle hS hL)
  · exact h.elim
theorem ps_gIN {pre : pm_M → Nat → Prop} {C ref : String} {T : u_T} {N ci k idx : Nat} (hf : pm_Fk ci k 0 C T N ref) {host : String} (hlink : Cond.fieldLinkNest μ.1.cls idx ref (T k).2.1 (T k).2.2.1 host ∈ lw_tbl) (hd : decode μ.2.1 pc = .ok (.getfield idx, 3)) (hg : ∀ S a, G S → pre S a → (pm_hd S a).1 = ci) (hc : pm_S μ G d S0 Q (pc + 3) c) : pm_S μ G d S0 Q pc (pi_gI pre k c) := by
  intro ls st S h
  unfold pi_gI at h
  split at h
  · rename_i a r
    intro w p l e s m args below meth c' X H locs rls hH hG hle hS hL
    obtain ⟨hcl, hci, hin, hk, hft, href, -⟩ := hf
    obtain ⟨h1, h2, h3⟩ := hH.obj (hg S a hG h.1) hci
    exact va_getN (D := pm_D w) (cl := pm_cl) (C := C) (T := T) (N := N) (own := μ.1.cls) X.2.2.2.1 X.2.2.2.2.1 (pm_words X.1 X.2.1 args) hin X.2.2.2.2.2.2.2.1 (pm_KX.K X.1 X.2.1) hH.1 a h3 hcl k hk (pm_nF X.1 X.2.1 hlink _) (fun x hx => by rw [← href]; exact hx) (pm_fv_k (ci := ci) hft) hd (hc _ _ _ h.2 w p l e s m args below meth c' X H locs rls hH hG hle hS hL)
  · exact h.elim
def pi_gL (pre : pm_M → Nat → Prop) (k : Nat) (c : pm_K) : pm_K := fun ls st S => match st with
  | .ref a :: r => pre S a ∧ c ls (.long (pm_L S a k) :: r) S
  | _ => False
theorem ps_gL {pre : pm_M → Nat → Prop} {C ref : String} {T : u_T} {N ci k idx : Nat} (hf : pm_Fk ci k 1 C T N ref) (hlink : Cond.fieldLink μ.1.cls idx ref (T k).2.1 (T k).2.2.1 ∈ lw_all) (hd : decode μ.2.1 pc = .ok (.getfield idx, 3)) (hg : ∀ S a, G S → pre S a → (pm_hd S a).1 = ci) (hc : pm_S μ G d S0 Q (pc + 3) c) : pm_S μ G d S0 Q pc (pi_gL pre k c) := by
  intro ls st S h
  unfold pi_gL at h
  split at h
  · rename_i a r
    intro w p l e s m args below meth c' X H locs rls hH hG hle hS hL
    obtain ⟨hcl, hci, hin, hk, hft, href, -⟩ := hf
    obtain ⟨h1, h2, h3⟩ := hH.obj (hg S a hG h.1) hci
    exact va_get (D := pm_D w) (cl := pm_cl) (C := C) (T := T) (N := N) (own := μ.1.cls) X.2.2.2.1 X.2.2.2.2.1 (pm_words X.1 X.2.1 args) hin X.2.2.2.2.2.2.2.1 (pm_KX.K X.1 X.2.1) hH.1 a h3 hcl k hk (pm_word X.1 X.2.1 hlink _) (fun x hx => by rw [← href]; exact hx) (pm_fv_k (ci := ci) hft) hd (hc _ _ _ h.2 w p l e s m args below meth c' X H locs rls hH hG hle hS hL)
  · exact h.elim
theorem ps_gLN {pre : pm_M → Nat → Prop} {C ref : String} {T : u_T} {N ci k idx : Nat} (hf : pm_Fk ci k 1 C T N ref) {host : String} (hlink : Cond.fieldLinkNest μ.1.cls idx ref (T k).2.1 (T k).2.2.1 host ∈ lw_tbl) (hd : decode μ.2.1 pc = .ok (.getfield idx, 3)) (hg : ∀ S a, G S → pre S a → (pm_hd S a).1 = ci) (hc : pm_S μ G d S0 Q (pc + 3) c) : pm_S μ G d S0 Q pc (pi_gL pre k c) := by
  intro ls st S h
  unfold pi_gL at h
  split at h
  · rename_i a r
    intro w p l e s m args below meth c' X H locs rls hH hG hle hS hL
    obtain ⟨hcl, hci, hin, hk, hft, href, -⟩ := hf
    obtain ⟨h1, h2, h3⟩ := hH.obj (hg S a hG h.1) hci
    exact va_getN (D := pm_D w) (cl := pm_cl) (C := C) (T := T) (N := N) (own := μ.1.cls) X.2.2.2.1 X.2.2.2.2.1 (pm_words X.1 X.2.1 args) hin X.2.2.2.2.2.2.2.1 (pm_KX.K X.1 X.2.1) hH.1 a h3 hcl k hk (pm_nF X.1 X.2.1 hlink _) (fun x hx => by rw [← href]; exact hx) (pm_fv_k (ci := ci) hft) hd (hc _ _ _ h.2 w p l e s m args below meth c' X H locs rls hH hG hle hS hL)
  · exact h.elim
def pi_gR (pre : pm_M → Nat → Prop) (k : Nat) (c : pm_K) : pm_K := fun ls st S => match st with
  | .ref a :: r => pre S a ∧ ∃ x, pm_P S a k = some x ∧ c ls (.ref x :: r) S
  | _ => False
theorem ps_gR {pre : pm_M → Nat → Prop} {C ref : String} {T : u_T} {N ci k idx : Nat} (hf : pm_Fk ci k 2 C T N ref) (hlink : Cond.fieldLink μ.1.cls idx ref (T k).2.1 (T k).2.2.1 ∈ lw_all) (hd : decode μ.2.1 pc = .ok (.getfield idx, 3)) (hg : ∀ S a, G S → pre S a → (pm_hd S a).1 = ci) (hc : pm_S μ G d S0 Q (pc + 3) c) : pm_S μ G d S0 Q pc (pi_gR pre k c) := by
  intro ls st S h
  unfold pi_gR at h
  split at h
  · rename_i a r
    intro w p l e s m args below meth c' X H locs rls hH hG hle hS hL
    obtain ⟨hcl, hci, hin, hk, hft, href, -⟩ := hf
    obtain ⟨h1, h2, h3⟩ := hH.obj (hg S a hG h.1) hci
    obtain ⟨h0, x, hx, hh⟩ := h
    refine va_get (D := pm_D w) (cl := pm_cl) (C := C) (T := T) (N := N) (own := μ.1.cls) X.2.2.2.1 X.2.2.2.2.1 (pm_words X.1 X.2.1 args) hin X.2.2.2.2.2.2.2.1 (pm_KX.K X.1 X.2.1) hH.1 a h3 hcl k hk (pm_word X.1 X.2.1 hlink _) (fun x hx => by rw [← href]; exact hx) (pm_fv_k (ci := ci) hft) hd ?_
    rw [show pm_fw w S a k 2 = .ref (pm_f w x) by simp [pm_fw, hx, pm_r]]
    exact hc _ _ _ hh w p l e s m args below meth c' X H locs rls hH hG hle hS hL
  · exact h.elim
theorem ps_gRN {pre : pm_M → Nat → Prop} {C ref : String} {T : u_T} {N ci k idx : Nat} (hf : pm_Fk ci k 2 C T N ref) {host : String} (hlink : Cond.fieldLinkNest μ.1.cls idx ref (T k).2.1 (T k).2.2.1 host ∈ lw_tbl) (hd : decode μ.2.1 pc = .ok (.getfield idx, 3)) (hg : ∀ S a, G S → pre S a → (pm_hd S a).1 = ci) (hc : pm_S μ G d S0 Q (pc + 3) c) : pm_S μ G d S0 Q pc (pi_gR pre k c) := by
  intro ls st S h
  unfold pi_gR at h
  split at h
  · rename_i a r
    intro w p l e s m args below meth c' X H locs rls hH hG hle hS hL
    obtain ⟨hcl, hci, hin, hk, hft, href, -⟩ := hf
    obtain ⟨h1, h2, h3⟩ := hH.obj (hg S a hG h.1) hci
    obtain ⟨h0, x, hx, hh⟩ := h
    refine va_getN (D := pm_D w) (cl := pm_cl) (C := C) (T := T) (N := N) (own := μ.1.cls) X.2.2.2.1 X.2.2.2.2.1 (pm_words X.1 X.2.1 args) hin X.2.2.2.2.2.2.2.1 (pm_KX.K X.1 X.2.1) hH.1 a h3 hcl k hk (pm_nF X.1 X.2.1 hlink _) (fun x hx => by rw [← href]; exact hx) (pm_fv_k (ci := ci) hft) hd ?_
    rw [show pm_fw w S a k 2 = .ref (pm_f w x) by simp [pm_fw, hx, pm_r]]
    exact hc _ _ _ hh w p l e s m args below meth c' X H locs rls hH hG hle hS hL
  · exact h.elim
def pi_gN (pre : pm_M → Nat → Prop) (k : Nat) (c : pm_K) : pm_K := fun ls st S => match st with
  | .ref a :: r => pre S a ∧ (pm_P S a k = none → c ls (.null :: r) S) ∧ (∀ x, pm_P S a k = some x → c ls (.ref x :: r) S)
  | _ => False
theorem ps_gN {pre : pm_M → Nat → Prop} {C ref : String} {T : u_T} {N ci k idx : Nat} (hf : pm_Fk ci k 2 C T N ref) (hlink : Cond.fieldLink μ.1.cls idx ref (T k).2.1 (T k).2.2.1 ∈ lw_all) (hd : decode μ.2.1 pc = .ok (.getfield idx, 3)) (hg : ∀ S a, G S → pre S a → (pm_hd S a).1 = ci) (hc : pm_S μ G d S0 Q (pc + 3) c) : pm_S μ G d S0 Q pc (pi_gN pre k c) := by
  intro ls st S h
  unfold pi_gN at h
  split at h
  · rename_i a r
    intro w p l e s m args below meth c' X H locs rls hH hG hle hS hL
    obtain ⟨hcl, hci, hin, hk, hft, href, -⟩ := hf
    obtain ⟨h1, h2, h3⟩ := hH.obj (hg S a hG h.1) hci
    refine va_get (D := pm_D w) (cl := pm_cl) (C := C) (T := T) (N := N) (own := μ.1.cls) X.2.2.2.1 X.2.2.2.2.1 (pm_words X.1 X.2.1 args) hin X.2.2.2.2.2.2.2.1 (pm_KX.K X.1 X.2.1) hH.1 a h3 hcl k hk (pm_word X.1 X.2.1 hlink _) (fun x hx => by rw [← href]; exact hx) (pm_fv_k (ci := ci) hft) hd ?_
    cases hx : pm_P S a k with
    | none =>
      rw [show pm_fw w S a k 2 = .null by simp [pm_fw, hx, pm_r]]
      exact hc _ _ _ (h.2.1 hx) w p l e s m args below meth c' X H locs rls hH hG hle hS hL
    | some x =>
      rw [show pm_fw w S a k 2 = .ref (pm_f w x) by simp [pm_fw, hx, pm_r]]
      exact hc _ _ _ (h.2.2 x hx) w p l e s m args below meth c' X H locs rls hH hG hle hS hL
  · exact h.elim
theorem ps_gNN {pre : pm_M → Nat → Prop} {C ref : String} {T : u_T} {N ci k idx : Nat} (hf : pm_Fk ci k 2 C T N ref) {host : String} (hlink : Cond.fieldLinkNest μ.1.cls idx ref (T k).2.1 (T k).2.2.1 host ∈ lw_tbl) (hd : decode μ.2.1 pc = .ok (.getfield idx, 3)) (hg : ∀ S a, G S → pre S a → (pm_hd S a).1 = ci) (hc : pm_S μ G d S0 Q (pc + 3) c) : pm_S μ G d S0 Q pc (pi_gN pre k c) := by
  intro ls st S h
  unfold pi_gN at h
  split at h
  · rename_i a r
    intro w p l e s m args below meth c' X H locs rls hH hG hle hS hL
    obtain ⟨hcl, hci, hin, hk, hft, href, -⟩ := hf
    obtain ⟨h1, h2, h3⟩ := hH.obj (hg S a hG h.1) hci
    refine va_getN (D := pm_D w) (cl := pm_cl) (C := C) (T := T) (N := N) (own := μ.1.cls) X.2.2.2.1 X.2.2.2.2.1 (pm_words X.1 X.2.1 args) hin X.2.2.2.2.2.2.2.1 (pm_KX.K X.1 X.2.1) hH.1 a h3 hcl k hk (pm_nF X.1 X.2.1 hlink _) (fun x hx => by rw [← href]; exact hx) (pm_fv_k (ci := ci) hft) hd ?_
    cases hx : pm_P S a k with
    | none =>
      rw [show pm_fw w S a k 2 = .null by simp [pm_fw, hx, pm_r]]
      exact hc _ _ _ (h.2.1 hx) w p l e s m args below meth c' X H locs rls hH hG hle hS hL
    | some x =>
      rw [show pm_fw w S a k 2 = .ref (pm_f w x) by simp [pm_fw, hx, pm_r]]
      exact hc _ _ _ (h.2.2 x hx) w p l e s m args below meth c' X H locs rls hH hG hle hS hL
  · exact h.elim
def pi_gG (pre : pm_M → Nat → Prop) (f : Nat → Nat) (k : Nat) (c : pm_K) : pm_K := fun ls st S => match st with
  | .ref a :: r => pre S a ∧ c ls (.ref (f a) :: r) S
  | _ => False
theorem ps_gG {pre : pm_M → Nat → Prop} {f : Nat → Nat} {C ref : String} {T : u_T} {N ci k idx : Nat} (hf : pm_Fk ci k 2 C T N ref) (hlink : Cond.fieldLink μ.1.cls idx ref (T k).2.1 (T k).2.2.1 ∈ lw_all) (hd : decode μ.2.1 pc = .ok (.getfield idx, 3)) (hg : ∀ S a, G S → pre S a → (pm_hd S a).1 = ci ∧ pm_P S a k = some (f a)) (hc : pm_S μ G d S0 Q (pc + 3) c) : pm_S μ G d S0 Q pc (pi_gG pre f k c) := by
  intro ls st S h
  unfold pi_gG at h
  split at h
  · rename_i a r
    intro w p l e s m args below meth c' X H locs rls hH hG hle hS hL
    obtain ⟨hcl, hci, hin, hk, hft, href, -⟩ := hf
    obtain ⟨h1, h2, h3⟩ := hH.obj ((hg S a hG h.1).1) hci
    refine va_get (D := pm_D w) (cl := pm_cl) (C := C) (T := T) (N := N) (own := μ.1.cls) X.2.2.2.1 X.2.2.2.2.1 (pm_words X.1 X.2.1 args) hin X.2.2.2.2.2.2.2.1 (pm_KX.K X.1 X.2.1) hH.1 a h3 hcl k hk (pm_word X.1 X.2.1 hlink _) (fun x hx => by rw [← href]; exact hx) (pm_fv_k (ci := ci) hft) hd ?_
    rw [show pm_fw w S a k 2 = .ref (pm_f w (f a)) by simp [pm_fw, (hg S a hG h.1).2, pm_r]]
    exact hc _ _ _ h.2 w p l e s m args below meth c' X H locs rls hH hG hle hS hL
  · exact h.elim
theorem ps_gGN {pre : pm_M → Nat → Prop} {f : Nat → Nat} {C ref : String} {T : u_T} {N ci k idx : Nat} (hf : pm_Fk ci k 2 C T N ref) {host : String} (hlink : Cond.fieldLinkNest μ.1.cls idx ref (T k).2.1 (T k).2.2.1 host ∈ lw_tbl) (hd : decode μ.2.1 pc = .ok (.getfield idx, 3)) (hg : ∀ S a, G S → pre S a → (pm_hd S a).1 = ci ∧ pm_P S a k = some (f a)) (hc : pm_S μ G d S0 Q (pc + 3) c) : pm_S μ G d S0 Q pc (pi_gG pre f k c) := by
  intro ls st S h
  unfold pi_gG at h
  split at h
  · rename_i a r
    intro w p l e s m args below meth c' X H locs rls hH hG hle hS hL
    obtain ⟨hcl, hci, hin, hk, hft, href, -⟩ := hf
    obtain ⟨h1, h2, h3⟩ := hH.obj ((hg S a hG h.1).1) hci
    refine va_getN (D := pm_D w) (cl := pm_cl) (C := C) (T := T) (N := N) (own := μ.1.cls) X.2.2.2.1 X.2.2.2.2.1 (pm_words X.1 X.2.1 args) hin X.2.2.2.2.2.2.2.1 (pm_KX.K X.1 X.2.1) hH.1 a h3 hcl k hk (pm_nF X.1 X.2.1 hlink _) (fun x hx => by rw [← href]; exact hx) (pm_fv_k (ci := ci) hft) hd ?_
    rw [show pm_fw w S a k 2 = .ref (pm_f w (f a)) by simp [pm_fw, (hg S a hG h.1).2, pm_r]]
    exact hc _ _ _ h.2 w p l e s m args below meth c' X H locs rls hH hG hle hS hL
  · exact h.elim
theorem pm_fv_setI {w : pm_W} {S : pm_M} {a k : Nat} {v : Int32} : ∀ (ft : List Nat) (j i : Nat), ft[i]? = some 0 → j + i = k → pm_fv w (pm_sI S a (upd (pm_I S a) k v)) a j ft = (pm_fv w S a j ft).set i (.int v)
  | [], _, _, h, _ => by cases h
  | t :: ts, j, 0, h, e => by
    cases h
    have : pm_fv w (pm_sI S a (upd (pm_I S a) k v)) a (j + 1) ts = pm_fv w S a (j + 1) ts := by
      apply List.ext_getElem?
      intro q
      rw [pm_fv_at, pm_fv_at]
      congr 1
      funext t
      have : ¬ j + 1 + q = k := by omega
      simp [pm_fw, pm_I, pm_L, pm_P, pm_sI, upd, this]
    simp only [pm_fv, List.set_cons_zero, this]
    congr 1
    have : j = k := by omega
    simp [pm_fw, pm_I, pm_sI, upd, this]
  | t :: ts, j, i + 1, h, e => by
    simp only [pm_fv, List.set_cons_succ]
    rw [pm_fv_setI ts (j + 1) i h (by omega)]
    congr 1
    have : ¬ j = k := by omega
    simp [pm_fw, pm_I, pm_L, pm_P, pm_sI, upd, this]
theorem pm_fv_setL {w : pm_W} {S : pm_M} {a k : Nat} {v : Int64} : ∀ (ft : List Nat) (j i : Nat), ft[i]? = some 1 → j + i = k → pm_fv w (pm_sL S a (vp_updL (pm_L S a) k v)) a j ft = (pm_fv w S a j ft).set i (.long v)
  | [], _, _, h, _ => by cases h
  | t :: ts, j, 0, h, e => by
    cases h
    have : pm_fv w (pm_sL S a (vp_updL (pm_L S a) k v)) a (j + 1) ts = pm_fv w S a (j + 1) ts := by
      apply List.ext_getElem?
      intro q
      rw [pm_fv_at, pm_fv_at]
      congr 1
      funext t
      have : ¬ j + 1 + q = k := by omega
      simp [pm_fw, pm_I, pm_L, pm_P, pm_sL, vp_updL, this]
    simp only [pm_fv, List.set_cons_zero, this]
    congr 1
    have : j = k := by omega
    simp [pm_fw, pm_L, pm_sL, vp_updL, this]
  | t :: ts, j, i + 1, h, e => by
    simp only [pm_fv, List.set_cons_succ]
    rw [pm_fv_setL ts (j + 1) i h (by omega)]
    congr 1
    have : ¬ j = k := by omega
    simp [pm_fw, pm_I, pm_L, pm_P, pm_sL, vp_updL, this]
theorem pm_fv_setP {w : pm_W} {S : pm_M} {a k : Nat} {v : Option Nat} : ∀ (ft : List Nat) (j i : Nat), ft[i]? = some 2 → j + i = k → pm_fv w (pm_sP S a (va_up (pm_P S a) k v)) a j ft = (pm_fv w S a j ft).set i (pm_r w v)
  | [], _, _, h, _ => by cases h
  | t :: ts, j, 0, h, e => by
    cases h
    have : pm_fv w (pm_sP S a (va_up (pm_P S a) k v)) a (j + 1) ts = pm_fv w S a (j + 1) ts := by
      apply List.ext_getElem?
      intro q
      rw [pm_fv_at, pm_fv_at]
      congr 1
      funext t
      have : ¬ j + 1 + q = k := by omega
      simp [pm_fw, pm_I, pm_L, pm_P, pm_sP, va_up, this]
    simp only [pm_fv, List.set_cons_zero, this]
    congr 1
    have : j = k := by omega
    simp [pm_fw, pm_P, pm_sP, va_up, this]
  | t :: ts, j, i + 1, h, e => by
    simp only [pm_fv, List.set_cons_succ]
    rw [pm_fv_setP ts (j + 1) i h (by omega)]
    congr 1
    have : ¬ j = k := by omega
    simp [pm_fw, pm_I, pm_L, pm_P, pm_sP, va_up, this]
def pm_Gs (G : pm_M → Prop) : Prop := (∀ S a f, G S → G (pm_sI S a f)) ∧ (∀ S a f, G S → G (pm_sL S a f)) ∧ (∀ S k n sl, G S → G (pm_al S k n sl))
def pi_pI (pre : pm_M → Nat → Prop) (k : Nat) (c : pm_K) : pm_K := fun ls st S => match st with
  | .int v :: .ref a :: r => pre S a ∧ c ls r (pm_sI S a (upd (pm_I S a) k v))
  | _ => False
def pi_pZ (pre : pm_M → Nat → Prop) (k : Nat) (c : pm_K) : pm_K := fun ls st S => match st with
  | .int v :: .ref a :: r => (v = 0 ∨ v = 1) ∧ pre S a ∧ c ls r (pm_sI S a (upd (pm_I S a) k v))
  | _ => False
def pi_pL (pre : pm_M → Nat → Prop) (k : Nat) (c : pm_K) : pm_K := fun ls st S => match st with
  | .long v :: .ref a :: r => pre S a ∧ c ls r (pm_sL S a (vp_updL (pm_L S a) k v))
  | _ => False
def pi_pP (G : pm_M → Prop) (pre : pm_M → Nat → Prop) (k : Nat) (c : pm_K) : pm_K := fun ls st S => match st with
  | .ref v :: .ref a :: r => pre S a ∧ (G S → G (pm_sP S a (va_up (pm_P S a) k (some v)))) ∧ c ls r (pm_sP S a (va_up (pm_P S a) k (some v)))
  | .null :: .ref a :: r => pre S a ∧ (G S → G (pm_sP S a (va_up (pm_P S a) k none))) ∧ c ls r (pm_sP S a (va_up (pm_P S a) k none))
  | _ => False
theorem ps_pI {pre : pm_M → Nat → Prop} {C ref : String} {T : u_T} {N ci k idx : Nat} (hf : pm_Fk ci k 0 C T N ref) (hlink : Cond.fieldLink μ.1.cls idx ref (T k).2.1 (T k).2.2.1 ∈ lw_all) (hfin : (T k).2.2.2 = false) (ty0 : Nat → FieldType) (hty : ∀ k, k < N → parseFieldDescriptor (T k).2.2.1 = some (ty0 k)) (hnm : ∀ a, a < N → ∀ b, b < N → a ≠ b → (T a).2.1 ≠ (T b).2.1) (ht0 : ty0 k = .int) (hd : decode μ.2.1 pc = .ok (.putfield idx, 3)) (hg : ∀ S a, G S → pre S a → (pm_hd S a).1 = ci) (hGs : pm_Gs G) (hc : pm_S μ G d S0 Q (pc + 3) c) : pm_S μ G d S0 Q pc (pi_pI pre k c) := by
  intro ls st S h
  unfold pi_pI at h
  split at h
  · rename_i v a r
    intro w p l e s m args below meth c' X H locs rls hH hG hle hS hL
    obtain ⟨hcl, hci, hin, hk, hft, href, hlen⟩ := hf
    obtain ⟨h1, h2, h3⟩ := hH.obj (hg S a hG h.1) hci
    refine va_put (D := pm_D w) (cl := pm_cl) (C := C) (T := T) (N := N) (own := μ.1.cls) X.2.2.2.1 X.2.2.2.2.1 (pm_words X.1 X.2.1 args) hin ty0 hty hnm X.2.2.2.2.2.2.2.1 (pm_KX.K X.1 X.2.1) hH.1 (pm_ws_D w S) hS a h3 hcl k hk (pm_word X.1 X.2.1 hlink _) (fun x hx => by rw [← href]; exact hx) hfin (hty k hk) (by rw [ht0]; rfl) (by rw [ht0]; rfl) (by rw [pm_fv_len, hlen]; exact hk) hd fun H1 locs1 hP1 _ hS1 => ?_
    have he : pm_ce w (pm_sI S a (upd (pm_I S a) k v)) a = .inr (ci, (pm_fv w S a 0 (pm_ft ci)).set k (.int v)) := by
      have q : (pm_hd S a).1 = ci := hg S a hG h.1
      have q2 : pm_hd (pm_sI S a (upd (pm_I S a) k v)) a = pm_hd S a := rfl
      simp only [pm_ce, q2, q]
      rw [if_pos (by omega), pm_fv_setI (pm_ft ci) 0 k hft (by omega)]
    rw [h2] at hP1
    have hP2 : va_P (pm_D w) pm_cl (pm_ws w (pm_sI S a (upd (pm_I S a) k v))) H1 := by
      rw [pm_ws_set (S := S) (S' := pm_sI S a (upd (pm_I S a) k v)) (a := a) rfl (fun x hx => pm_ce_congr rfl (by simp [pm_I, pm_sI, pm_sL, pm_sP, hx]) (by simp [pm_L, pm_sI, pm_sL, pm_sP, hx]) (by simp [pm_P, pm_sI, pm_sL, pm_sP, hx])) he]
      exact hP1
    refine pm_sz (S := pm_sI S a (upd (pm_I S a) k v)) (S0 := S0) hP2 hS1 X.2.2.1 hle.1 fun hz => ?_
    exact hc _ _ _ h.2 w p l e s m args below meth c' X H1 locs1 rls (hH.sI h1 he hP1 hz) (hGs.1 _ _ _ hG) hle hS1 hL
  · exact h.elim
theorem ps_pZ {pre : pm_M → Nat → Prop} {C ref : String} {T : u_T} {N ci k idx : Nat} (hf : pm_Fk ci k 0 C T N ref) (hlink : Cond.fieldLink μ.1.cls idx ref (T k).2.1 (T k).2.2.1 ∈ lw_all) (hfin : (T k).2.2.2 = false) (ty0 : Nat → FieldType) (hty : ∀ k, k < N → parseFieldDescriptor (T k).2.2.1 = some (ty0 k)) (hnm : ∀ a, a < N → ∀ b, b < N → a ≠ b → (T a).2.1 ≠ (T b).2.1) (ht0 : ty0 k = .boolean) (hd : decode μ.2.1 pc = .ok (.putfield idx, 3)) (hg : ∀ S a, G S → pre S a → (pm_hd S a).1 = ci) (hGs : pm_Gs G) (hc : pm_S μ G d S0 Q (pc + 3) c) : pm_S μ G d S0 Q pc (pi_pZ pre k c) := by
  intro ls st S h
  unfold pi_pZ at h
  split at h
  · rename_i v a r
    intro w p l e s m args below meth c' X H locs rls hH hG hle hS hL
    obtain ⟨hcl, hci, hin, hk, hft, href, hlen⟩ := hf
    obtain ⟨h1, h2, h3⟩ := hH.obj (hg S a hG h.2.1) hci
    refine va_put (D := pm_D w) (cl := pm_cl) (C := C) (T := T) (N := N) (own := μ.1.cls) X.2.2.2.1 X.2.2.2.2.1 (pm_words X.1 X.2.1 args) hin ty0 hty hnm X.2.2.2.2.2.2.2.1 (pm_KX.K X.1 X.2.1) hH.1 (pm_ws_D w S) hS a h3 hcl k hk (pm_word X.1 X.2.1 hlink _) (fun x hx => by rw [← href]; exact hx) hfin (hty k hk) (by rw [ht0]; rcases h.1 with q | q <;> rw [q] <;> rfl) (by rw [ht0]; rcases h.1 with q | q <;> rw [q] <;> rfl) (by rw [pm_fv_len, hlen]; exact hk) hd fun H1 locs1 hP1 _ hS1 => ?_
    have he : pm_ce w (pm_sI S a (upd (pm_I S a) k v)) a = .inr (ci, (pm_fv w S a 0 (pm_ft ci)).set k (.int v)) := by
      have q : (pm_hd S a).1 = ci := hg S a hG h.2.1
      have q2 : pm_hd (pm_sI S a (upd (pm_I S a) k v)) a = pm_hd S a := rfl
      simp only [pm_ce, q2, q]
      rw [if_pos (by omega), pm_fv_setI (pm_ft ci) 0 k hft (by omega)]
    rw [h2] at hP1
    have hP2 : va_P (pm_D w) pm_cl (pm_ws w (pm_sI S a (upd (pm_I S a) k v))) H1 := by
      rw [pm_ws_set (S := S) (S' := pm_sI S a (upd (pm_I S a) k v)) (a := a) rfl (fun x hx => pm_ce_congr rfl (by simp [pm_I, pm_sI, pm_sL, pm_sP, hx]) (by simp [pm_L, pm_sI, pm_sL, pm_sP, hx]) (by simp [pm_P, pm_sI, pm_sL, pm_sP, hx])) he]
      exact hP1
    refine pm_sz (S := pm_sI S a (upd (pm_I S a) k v)) (S0 := S0) hP2 hS1 X.2.2.1 hle.1 fun hz => ?_
    exact hc _ _ _ h.2.2 w p l e s m args below meth c' X H1 locs1 rls (hH.sI h1 he hP1 hz) (hGs.1 _ _ _ hG) hle hS1 hL
  · exact h.elim
theorem ps_pL {pre : pm_M → Nat → Prop} {C ref : String} {T : u_T} {N ci k idx : Nat} (hf : pm_Fk ci k 1 C T N ref) (hlink : Cond.fieldLink μ.1.cls idx ref (T k).2.1 (T k).2.2.1 ∈ lw_all) (hfin : (T k).2.2.2 = false) (ty0 : Nat → FieldType) (hty : ∀ k, k < N → parseFieldDescriptor (T k).2.2.1 = some (ty0 k)) (hnm : ∀ a, a < N → ∀ b, b < N → a ≠ b → (T a).2.1 ≠ (T b).2.1) (ht0 : ty0 k = .long) (hd : decode μ.2.1 pc = .ok (.putfield idx, 3)) (hg : ∀ S a, G S → pre S a → (pm_hd S a).1 = ci) (hGs : pm_Gs G) (hc : pm_S μ G d S0 Q (pc + 3) c) : pm_S μ G d S0 Q pc (pi_pL pre k c) := by
  intro ls st S h
  unfold pi_pL at h
  split at h
  · rename_i v a r
    intro w p l e s m args below meth c' X H locs rls hH hG hle hS hL
    obtain ⟨hcl, hci, hin, hk, hft, href, hlen⟩ := hf
    obtain ⟨h1, h2, h3⟩ := hH.obj (hg S a hG h.1) hci
    refine va_put (D := pm_D w) (cl := pm_cl) (C := C) (T := T) (N := N) (own := μ.1.cls) X.2.2.2.1 X.2.2.2.2.1 (pm_words X.1 X.2.1 args) hin ty0 hty hnm X.2.2.2.2.2.2.2.1 (pm_KX.K X.1 X.2.1) hH.1 (pm_ws_D w S) hS a h3 hcl k hk (pm_word X.1 X.2.1 hlink _) (fun x hx => by rw [← href]; exact hx) hfin (hty k hk) (by rw [ht0]; rfl) (by rw [ht0]; rfl) (by rw [pm_fv_len, hlen]; exact hk) hd fun H1 locs1 hP1 _ hS1 => ?_
    have he : pm_ce w (pm_sL S a (vp_updL (pm_L S a) k v)) a = .inr (ci, (pm_fv w S a 0 (pm_ft ci)).set k (.long v)) := by
      have q : (pm_hd S a).1 = ci := hg S a hG h.1
      have q2 : pm_hd (pm_sL S a (vp_updL (pm_L S a) k v)) a = pm_hd S a := rfl
      simp only [pm_ce, q2, q]
      rw [if_pos (by omega), pm_fv_setL (pm_ft ci) 0 k hft (by omega)]
    rw [h2] at hP1
    have hP2 : va_P (pm_D w) pm_cl (pm_ws w (pm_sL S a (vp_updL (pm_L S a) k v))) H1 := by
      rw [pm_ws_set (S := S) (S' := pm_sL S a (vp_updL (pm_L S a) k v)) (a := a) rfl (fun x hx => pm_ce_congr rfl (by simp [pm_I, pm_sI, pm_sL, pm_sP, hx]) (by simp [pm_L, pm_sI, pm_sL, pm_sP, hx]) (by simp [pm_P, pm_sI, pm_sL, pm_sP, hx])) he]
      exact hP1
    refine pm_sz (S := pm_sL S a (vp_updL (pm_L S a) k v)) (S0 := S0) hP2 hS1 X.2.2.1 hle.1 fun hz => ?_
    exact hc _ _ _ h.2 w p l e s m args below meth c' X H1 locs1 rls (hH.sL he hP1 hz) (hGs.2.1 _ _ _ hG) hle hS1 hL
  · exact h.elim
theorem ps_pP {pre : pm_M → Nat → Prop} {C ref : String} {T : u_T} {N ci k idx : Nat} (hf : pm_Fk ci k 2 C T N ref) (hlink : Cond.fieldLink μ.1.cls idx ref (T k).2.1 (T k).2.2.1 ∈ lw_all) (hfin : (T k).2.2.2 = false) (ty0 : Nat → FieldType) (hty : ∀ k, k < N → parseFieldDescriptor (T k).2.2.1 = some (ty0 k)) (hnm : ∀ a, a < N → ∀ b, b < N → a ≠ b → (T a).2.1 ≠ (T b).2.1) (hn0 : ∀ v : Value, v.isRef = true → narrow (ty0 k) v = v ∧ fits (ty0 k) v = true) (hd : decode μ.2.1 pc = .ok (.putfield idx, 3)) (hg : ∀ S a, G S → pre S a → (pm_hd S a).1 = ci) (hc : pm_S μ G d S0 Q (pc + 3) c) : pm_S μ G d S0 Q pc (pi_pP G pre k c) := by
  intro ls st S h
  unfold pi_pP at h
  split at h
  · rename_i v a r
    intro w p l e s m args below meth c' X H locs rls hH hG hle hS hL
    obtain ⟨hcl, hci, hin, hk, hft, href, hlen⟩ := hf
    obtain ⟨h1, h2, h3⟩ := hH.obj (hg S a hG h.1) hci
    refine va_put (D := pm_D w) (cl := pm_cl) (C := C) (T := T) (N := N) (own := μ.1.cls) X.2.2.2.1 X.2.2.2.2.1 (pm_words X.1 X.2.1 args) hin ty0 hty hnm X.2.2.2.2.2.2.2.1 (pm_KX.K X.1 X.2.1) hH.1 (pm_ws_D w S) hS a h3 hcl k hk (pm_word X.1 X.2.1 hlink _) (fun x hx => by rw [← href]; exact hx) hfin (hty k hk) (hn0 (.ref (pm_f w v)) rfl).1 (hn0 (.ref (pm_f w v)) rfl).2 (by rw [pm_fv_len, hlen]; exact hk) hd fun H1 locs1 hP1 _ hS1 => ?_
    have he : pm_ce w (pm_sP S a (va_up (pm_P S a) k (some v))) a = .inr (ci, (pm_fv w S a 0 (pm_ft ci)).set k (pm_r w (some v))) := by
      have q : (pm_hd S a).1 = ci := hg S a hG h.1
      have q2 : pm_hd (pm_sP S a (va_up (pm_P S a) k (some v))) a = pm_hd S a := rfl
      simp only [pm_ce, q2, q]
      rw [if_pos (by omega), pm_fv_setP (pm_ft ci) 0 k hft (by omega)]
    rw [h2] at hP1
    have hP2 : va_P (pm_D w) pm_cl (pm_ws w (pm_sP S a (va_up (pm_P S a) k (some v)))) H1 := by
      rw [pm_ws_set (S := S) (S' := pm_sP S a (va_up (pm_P S a) k (some v))) (a := a) rfl (fun x hx => pm_ce_congr rfl (by simp [pm_I, pm_sI, pm_sL, pm_sP, hx]) (by simp [pm_L, pm_sI, pm_sL, pm_sP, hx]) (by simp [pm_P, pm_sI, pm_sL, pm_sP, hx])) he]
      exact hP1
    refine pm_sz (S := pm_sP S a (va_up (pm_P S a) k (some v))) (S0 := S0) hP2 hS1 X.2.2.1 hle.1 fun hz => ?_
    exact hc _ _ _ h.2.2 w p l e s m args below meth c' X H1 locs1 rls (hH.sP he hP1 hz) (h.2.1 hG) hle hS1 hL
  · rename_i a r
    intro w p l e s m args below meth c' X H locs rls hH hG hle hS hL
    obtain ⟨hcl, hci, hin, hk, hft, href, hlen⟩ := hf
    obtain ⟨h1, h2, h3⟩ := hH.obj (hg S a hG h.1) hci
    refine va_put (D := pm_D w) (cl := pm_cl) (C := C) (T := T) (N := N) (own := μ.1.cls) X.2.2.2.1 X.2.2.2.2.1 (pm_words X.1 X.2.1 args) hin ty0 hty hnm X.2.2.2.2.2.2.2.1 (pm_KX.K X.1 X.2.1) hH.1 (pm_ws_D w S) hS a h3 hcl k hk (pm_word X.1 X.2.1 hlink _) (fun x hx => by rw [← href]; exact hx) hfin (hty k hk) (hn0 .null rfl).1 (hn0 .null rfl).2 (by rw [pm_fv_len, hlen]; exact hk) hd fun H1 locs1 hP1 _ hS1 => ?_
    have he : pm_ce w (pm_sP S a (va_up (pm_P S a) k none)) a = .inr (ci, (pm_fv w S a 0 (pm_ft ci)).set k (pm_r w none)) := by
      have q : (pm_hd S a).1 = ci := hg S a hG h.1
      have q2 : pm_hd (pm_sP S a (va_up (pm_P S a) k none)) a = pm_hd S a := rfl
      simp only [pm_ce, q2, q]
      rw [if_pos (by omega), pm_fv_setP (pm_ft ci) 0 k hft (by omega)]
    rw [h2] at hP1
    have hP2 : va_P (pm_D w) pm_cl (pm_ws w (pm_sP S a (va_up (pm_P S a) k none))) H1 := by
      rw [pm_ws_set (S := S) (S' := pm_sP S a (va_up (pm_P S a) k none)) (a := a) rfl (fun x hx => pm_ce_congr rfl (by simp [pm_I, pm_sI, pm_sL, pm_sP, hx]) (by simp [pm_L, pm_sI, pm_sL, pm_sP, hx]) (by simp [pm_P, pm_sI, pm_sL, pm_sP, hx])) he]
      exact hP1
    refine pm_sz (S := pm_sP S a (va_up (pm_P S a) k none)) (S0 := S0) hP2 hS1 X.2.2.1 hle.1 fun hz => ?_
    exact hc _ _ _ h.2.2 w p l e s m args below meth c' X H1 locs1 rls (hH.sP he hP1 hz) (h.2.1 hG) hle hS1 hL
  · exact h.elim
theorem ps_pIF {pre : pm_M → Nat → Prop} {C ref : String} {T : u_T} {N ci k idx : Nat} (hf : pm_Fk ci k 0 C T N ref) (hlink : Cond.fieldLink μ.1.cls idx ref (T k).2.1 (T k).2.2.1 ∈ lw_all) (hfin : (T k).2.2.2 = true) (hini : μ.1.name = "<init>") (hdecl : (T k).1 = μ.1.cls) (ty0 : Nat → FieldType) (hty : ∀ k, k < N → parseFieldDescriptor (T k).2.2.1 = some (ty0 k)) (hnm : ∀ a, a < N → ∀ b, b < N → a ≠ b → (T a).2.1 ≠ (T b).2.1) (ht0 : ty0 k = .int) (hd : decode μ.2.1 pc = .ok (.putfield idx, 3)) (hg : ∀ S a, G S → pre S a → (pm_hd S a).1 = ci) (hGs : pm_Gs G) (hc : pm_S μ G d S0 Q (pc + 3) c) : pm_S μ G d S0 Q pc (pi_pI pre k c) := by
  intro ls st S h
  unfold pi_pI at h
  split at h
  · rename_i v a r
    intro w p l e s m args below meth c' X H locs rls hH hG hle hS hL
    obtain ⟨hcl, hci, hin, hk, hft, href, hlen⟩ := hf
    obtain ⟨h1, h2, h3⟩ := hH.obj (hg S a hG h.1) hci
    refine va_putF (D := pm_D w) (cl := pm_cl) (C := C) (T := T) (N := N) (own := μ.1.cls) X.2.2.2.1 X.2.2.2.2.1 (pm_words X.1 X.2.1 args) hin ty0 hty hnm X.2.2.2.2.2.2.2.1 (pm_KX.K X.1 X.2.1) hH.1 (pm_ws_D w S) hS a h3 hcl k hk (pm_word X.1 X.2.1 hlink _) (fun x hx => by rw [← href]; exact hx) hfin (X.2.2.2.2.2.2.2.2.2.1.trans hini) hdecl (hty k hk) (by rw [ht0]; rfl) (by rw [ht0]; rfl) (by rw [pm_fv_len, hlen]; exact hk) hd fun H1 locs1 hP1 _ hS1 => ?_
    have he : pm_ce w (pm_sI S a (upd (pm_I S a) k v)) a = .inr (ci, (pm_fv w S a 0 (pm_ft ci)).set k (.int v)) := by
      have q : (pm_hd S a).1 = ci := hg S a hG h.1
      have q2 : pm_hd (pm_sI S a (upd (pm_I S a) k v)) a = pm_hd S a := rfl
      simp only [pm_ce, q2, q]
      rw [if_pos (by omega), pm_fv_setI (pm_ft ci) 0 k hft (by omega)]
    rw [h2] at hP1
    have hP2 : va_P (pm_D w) pm_cl (pm_ws w (pm_sI S a (upd (pm_I S a) k v))) H1 := by
      rw [pm_ws_set (S := S) (S' := pm_sI S a (upd (pm_I S a) k v)) (a := a) rfl (fun x hx => pm_ce_congr rfl (by simp [pm_I, pm_sI, pm_sL, pm_sP, hx]) (by simp [pm_L, pm_sI, pm_sL, pm_sP, hx]) (by simp [pm_P, pm_sI, pm_sL, pm_sP, hx])) he]
      exact hP1
    refine pm_sz (S := pm_sI S a (upd (pm_I S a) k v)) (S0 := S0) hP2 hS1 X.2.2.1 hle.1 fun hz => ?_
    exact hc _ _ _ h.2 w p l e s m args below meth c' X H1 locs1 rls (hH.sI h1 he hP1 hz) (hGs.1 _ _ _ hG) hle hS1 hL
  · exact h.elim
theorem ps_pZF {pre : pm_M → Nat → Prop} {C ref : String} {T : u_T} {N ci k idx : Nat} (hf : pm_Fk ci k 0 C T N ref) (hlink : Cond.fieldLink μ.1.cls idx ref (T k).2.1 (T k).2.2.1 ∈ lw_all) (hfin : (T k).2.2.2 = true) (hini : μ.1.name = "<init>") (hdecl : (T k).1 = μ.1.cls) (ty0 : Nat → FieldType) (hty : ∀ k, k < N → parseFieldDescriptor (T k).2.2.1 = some (ty0 k)) (hnm : ∀ a, a < N → ∀ b, b < N → a ≠ b → (T a).2.1 ≠ (T b).2.1) (ht0 : ty0 k = .boolean) (hd : decode μ.2.1 pc = .ok (.putfield idx, 3)) (hg : ∀ S a, G S → pre S a → (pm_hd S a).1 = ci) (hGs : pm_Gs G) (hc : pm_S μ G d S0 Q (pc + 3) c) : pm_S μ G d S0 Q pc (pi_pZ pre k c) := by
  intro ls st S h
  unfold pi_pZ at h
  split at h
  · rename_i v a r
    intro w p l e s m args below meth c' X H locs rls hH hG hle hS hL
    obtain ⟨hcl, hci, hin, hk, hft, href, hlen⟩ := hf
    obtain ⟨h1, h2, h3⟩ := hH.obj (hg S a hG h.2.1) hci
    refine va_putF (D := pm_D w) (cl := pm_cl) (C := C) (T := T) (N := N) (own := μ.1.cls) X.2.2.2.1 X.2.2.2.2.1 (pm_words X.1 X.2.1 args) hin ty0 hty hnm X.2.2.2.2.2.2.2.1 (pm_KX.K X.1 X.2.1) hH.1 (pm_ws_D w S) hS a h3 hcl k hk (pm_word X.1 X.2.1 hlink _) (fun x hx => by rw [← href]; exact hx) hfin (X.2.2.2.2.2.2.2.2.2.1.trans hini) hdecl (hty k hk) (by rw [ht0]; rcases h.1 with q | q <;> rw [q] <;> rfl) (by rw [ht0]; rcases h.1 with q | q <;> rw [q] <;> rfl) (by rw [pm_fv_len, hlen]; exact hk) hd fun H1 locs1 hP1 _ hS1 => ?_
    have he : pm_ce w (pm_sI S a (upd (pm_I S a) k v)) a = .inr (ci, (pm_fv w S a 0 (pm_ft ci)).set k (.int v)) := by
      have q : (pm_hd S a).1 = ci := hg S a hG h.2.1
      have q2 : pm_hd (pm_sI S a (upd (pm_I S a) k v)) a = pm_hd S a := rfl
      simp only [pm_ce, q2, q]
      rw [if_pos (by omega), pm_fv_setI (pm_ft ci) 0 k hft (by omega)]
    rw [h2] at hP1
    have hP2 : va_P (pm_D w) pm_cl (pm_ws w (pm_sI S a (upd (pm_I S a) k v))) H1 := by
      rw [pm_ws_set (S := S) (S' := pm_sI S a (upd (pm_I S a) k v)) (a := a) rfl (fun x hx => pm_ce_congr rfl (by simp [pm_I, pm_sI, pm_sL, pm_sP, hx]) (by simp [pm_L, pm_sI, pm_sL, pm_sP, hx]) (by simp [pm_P, pm_sI, pm_sL, pm_sP, hx])) he]
      exact hP1
    refine pm_sz (S := pm_sI S a (upd (pm_I S a) k v)) (S0 := S0) hP2 hS1 X.2.2.1 hle.1 fun hz => ?_
    exact hc _ _ _ h.2.2 w p l e s m args below meth c' X H1 locs1 rls (hH.sI h1 he hP1 hz) (hGs.1 _ _ _ hG) hle hS1 hL
  · exact h.elim
theorem ps_pLF {pre : pm_M → Nat → Prop} {C ref : String} {T : u_T} {N ci k idx : Nat} (hf : pm_Fk ci k 1 C T N ref) (hlink : Cond.fieldLink μ.1.cls idx ref (T k).2.1 (T k).2.2.1 ∈ lw_all) (hfin : (T k).2.2.2 = true) (hini : μ.1.name = "<init>") (hdecl : (T k).1 = μ.1.cls) (ty0 : Nat → FieldType) (hty : ∀ k, k < N → parseFieldDescriptor (T k).2.2.1 = some (ty0 k)) (hnm : ∀ a, a < N → ∀ b, b < N → a ≠ b → (T a).2.1 ≠ (T b).2.1) (ht0 : ty0 k = .long) (hd : decode μ.2.1 pc = .ok (.putfield idx, 3)) (hg : ∀ S a, G S → pre S a → (pm_hd S a).1 = ci) (hGs : pm_Gs G) (hc : pm_S μ G d S0 Q (pc + 3) c) : pm_S μ G d S0 Q pc (pi_pL pre k c) := by
  intro ls st S h
  unfold pi_pL at h
  split at h
  · rename_i v a r
    intro w p l e s m args below meth c' X H locs rls hH hG hle hS hL
    obtain ⟨hcl, hci, hin, hk, hft, href, hlen⟩ := hf
    obtain ⟨h1, h2, h3⟩ := hH.obj (hg S a hG h.1) hci
    refine va_putF (D := pm_D w) (cl := pm_cl) (C := C) (T := T) (N := N) (own := μ.1.cls) X.2.2.2.1 X.2.2.2.2.1 (pm_words X.1 X.2.1 args) hin ty0 hty hnm X.2.2.2.2.2.2.2.1 (pm_KX.K X.1 X.2.1) hH.1 (pm_ws_D w S) hS a h3 hcl k hk (pm_word X.1 X.2.1 hlink _) (fun x hx => by rw [← href]; exact hx) hfin (X.2.2.2.2.2.2.2.2.2.1.trans hini) hdecl (hty k hk) (by rw [ht0]; rfl) (by rw [ht0]; rfl) (by rw [pm_fv_len, hlen]; exact hk) hd fun H1 locs1 hP1 _ hS1 => ?_
    have he : pm_ce w (pm_sL S a (vp_updL (pm_L S a) k v)) a = .inr (ci, (pm_fv w S a 0 (pm_ft ci)).set k (.long v)) := by
      have q : (pm_hd S a).1 = ci := hg S a hG h.1
      have q2 : pm_hd (pm_sL S a (vp_updL (pm_L S a) k v)) a = pm_hd S a := rfl
      simp only [pm_ce, q2, q]
      rw [if_pos (by omega), pm_fv_setL (pm_ft ci) 0 k hft (by omega)]
    rw [h2] at hP1
    have hP2 : va_P (pm_D w) pm_cl (pm_ws w (pm_sL S a (vp_updL (pm_L S a) k v))) H1 := by
      rw [pm_ws_set (S := S) (S' := pm_sL S a (vp_updL (pm_L S a) k v)) (a := a) rfl (fun x hx => pm_ce_congr rfl (by simp [pm_I, pm_sI, pm_sL, pm_sP, hx]) (by simp [pm_L, pm_sI, pm_sL, pm_sP, hx]) (by simp [pm_P, pm_sI, pm_sL, pm_sP, hx])) he]
      exact hP1
    refine pm_sz (S := pm_sL S a (vp_updL (pm_L S a) k v)) (S0 := S0) hP2 hS1 X.2.2.1 hle.1 fun hz => ?_
    exact hc _ _ _ h.2 w p l e s m args below meth c' X H1 locs1 rls (hH.sL he hP1 hz) (hGs.2.1 _ _ _ hG) hle hS1 hL
  · exact h.elim
theorem ps_pPF {pre : pm_M → Nat → Prop} {C ref : String} {T : u_T} {N ci k idx : Nat} (hf : pm_Fk ci k 2 C T N ref) (hlink : Cond.fieldLink μ.1.cls idx ref (T k).2.1 (T k).2.2.1 ∈ lw_all) (hfin : (T k).2.2.2 = true) (hini : μ.1.name = "<init>") (hdecl : (T k).1 = μ.1.cls) (ty0 : Nat → FieldType) (hty : ∀ k, k < N → parseFieldDescriptor (T k).2.2.1 = some (ty0 k)) (hnm : ∀ a, a < N → ∀ b, b < N → a ≠ b → (T a).2.1 ≠ (T b).2.1) (hn0 : ∀ v : Value, v.isRef = true → narrow (ty0 k) v = v ∧ fits (ty0 k) v = true) (hd : decode μ.2.1 pc = .ok (.putfield idx, 3)) (hg : ∀ S a, G S → pre S a → (pm_hd S a).1 = ci) (hc : pm_S μ G d S0 Q (pc + 3) c) : pm_S μ G d S0 Q pc (pi_pP G pre k c) := by
  intro ls st S h
  unfold pi_pP at h
  split at h
  · rename_i v a r
    intro w p l e s m args below meth c' X H locs rls hH hG hle hS hL
    obtain ⟨hcl, hci, hin, hk, hft, href, hlen⟩ := hf
    obtain ⟨h1, h2, h3⟩ := hH.obj (hg S a hG h.1) hci
    refine va_putF (D := pm_D w) (cl := pm_cl) (C := C) (T := T) (N := N) (own := μ.1.cls) X.2.2.2.1 X.2.2.2.2.1 (pm_words X.1 X.2.1 args) hin ty0 hty hnm X.2.2.2.2.2.2.2.1 (pm_KX.K X.1 X.2.1) hH.1 (pm_ws_D w S) hS a h3 hcl k hk (pm_word X.1 X.2.1 hlink _) (fun x hx => by rw [← href]; exact hx) hfin (X.2.2.2.2.2.2.2.2.2.1.trans hini) hdecl (hty k hk) (hn0 (.ref (pm_f w v)) rfl).1 (hn0 (.ref (pm_f w v)) rfl).2 (by rw [pm_fv_len, hlen]; exact hk) hd fun H1 locs1 hP1 _ hS1 => ?_
    have he : pm_ce w (pm_sP S a (va_up (pm_P S a) k (some v))) a = .inr (ci, (pm_fv w S a 0 (pm_ft ci)).set k (pm_r w (some v))) := by
      have q : (pm_hd S a).1 = ci := hg S a hG h.1
      have q2 : pm_hd (pm_sP S a (va_up (pm_P S a) k (some v))) a = pm_hd S a := rfl
      simp only [pm_ce, q2, q]
      rw [if_pos (by omega), pm_fv_setP (pm_ft ci) 0 k hft (by omega)]
    rw [h2] at hP1
    have hP2 : va_P (pm_D w) pm_cl (pm_ws w (pm_sP S a (va_up (pm_P S a) k (some v)))) H1 := by
      rw [pm_ws_set (S := S) (S' := pm_sP S a (va_up (pm_P S a) k (some v))) (a := a) rfl (fun x hx => pm_ce_congr rfl (by simp [pm_I, pm_sI, pm_sL, pm_sP, hx]) (by simp [pm_L, pm_sI, pm_sL, pm_sP, hx]) (by simp [pm_P, pm_sI, pm_sL, pm_sP, hx])) he]
      exact hP1
    refine pm_sz (S := pm_sP S a (va_up (pm_P S a) k (some v))) (S0 := S0) hP2 hS1 X.2.2.1 hle.1 fun hz => ?_
    exact hc _ _ _ h.2.2 w p l e s m args below meth c' X H1 locs1 rls (hH.sP he hP1 hz) (h.2.1 hG) hle hS1 hL
  · rename_i a r
    intro w p l e s m args below meth c' X H locs rls hH hG hle hS hL
    obtain ⟨hcl, hci, hin, hk, hft, href, hlen⟩ := hf
    obtain ⟨h1, h2, h3⟩ := hH.obj (hg S a hG h.1) hci
    refine va_putF (D := pm_D w) (cl := pm_cl) (C := C) (T := T) (N := N) (own := μ.1.cls) X.2.2.2.1 X.2.2.2.2.1 (pm_words X.1 X.2.1 args) hin ty0 hty hnm X.2.2.2.2.2.2.2.1 (pm_KX.K X.1 X.2.1) hH.1 (pm_ws_D w S) hS a h3 hcl k hk (pm_word X.1 X.2.1 hlink _) (fun x hx => by rw [← href]; exact hx) hfin (X.2.2.2.2.2.2.2.2.2.1.trans hini) hdecl (hty k hk) (hn0 .null rfl).1 (hn0 .null rfl).2 (by rw [pm_fv_len, hlen]; exact hk) hd fun H1 locs1 hP1 _ hS1 => ?_
    have he : pm_ce w (pm_sP S a (va_up (pm_P S a) k none)) a = .inr (ci, (pm_fv w S a 0 (pm_ft ci)).set k (pm_r w none)) := by
      have q : (pm_hd S a).1 = ci := hg S a hG h.1
      have q2 : pm_hd (pm_sP S a (va_up (pm_P S a) k none)) a = pm_hd S a := rfl
      simp only [pm_ce, q2, q]
      rw [if_pos (by omega), pm_fv_setP (pm_ft ci) 0 k hft (by omega)]
    rw [h2] at hP1
    have hP2 : va_P (pm_D w) pm_cl (pm_ws w (pm_sP S a (va_up (pm_P S a) k none))) H1 := by
      rw [pm_ws_set (S := S) (S' := pm_sP S a (va_up (pm_P S a) k none)) (a := a) rfl (fun x hx => pm_ce_congr rfl (by simp [pm_I, pm_sI, pm_sL, pm_sP, hx]) (by simp [pm_L, pm_sI, pm_sL, pm_sP, hx]) (by simp [pm_P, pm_sI, pm_sL, pm_sP, hx])) he]
      exact hP1
    refine pm_sz (S := pm_sP S a (va_up (pm_P S a) k none)) (S0 := S0) hP2 hS1 X.2.2.1 hle.1 fun hz => ?_
    exact hc _ _ _ h.2.2 w p l e s m args below meth c' X H1 locs1 rls (hH.sP he hP1 hz) (h.2.1 hG) hle hS1 hL
  · exact h.elim
theorem ps_pIN {pre : pm_M → Nat → Prop} {C ref : String} {T : u_T} {N ci k idx : Nat} (hf : pm_Fk ci k 0 C T N ref) {host : String} (hlink : Cond.fieldLinkNest μ.1.cls idx ref (T k).2.1 (T k).2.2.1 host ∈ lw_tbl) (hfin : (T k).2.2.2 = false) (ty0 : Nat → FieldType) (hty : ∀ k, k < N → parseFieldDescriptor (T k).2.2.1 = some (ty0 k)) (hnm : ∀ a, a < N → ∀ b, b < N → a ≠ b → (T a).2.1 ≠ (T b).2.1) (ht0 : ty0 k = .int) (hd : decode μ.2.1 pc = .ok (.putfield idx, 3)) (hg : ∀ S a, G S → pre S a → (pm_hd S a).1 = ci) (hGs : pm_Gs G) (hc : pm_S μ G d S0 Q (pc + 3) c) : pm_S μ G d S0 Q pc (pi_pI pre k c) := by
  intro ls st S h
  unfold pi_pI at h
  split at h
  · rename_i v a r
    intro w p l e s m args below meth c' X H locs rls hH hG hle hS hL
    obtain ⟨hcl, hci, hin, hk, hft, href, hlen⟩ := hf
    obtain ⟨h1, h2, h3⟩ := hH.obj (hg S a hG h.1) hci
    refine va_putN (D := pm_D w) (cl := pm_cl) (C := C) (T := T) (N := N) (own := μ.1.cls) X.2.2.2.1 X.2.2.2.2.1 (pm_words X.1 X.2.1 args) hin ty0 hty hnm X.2.2.2.2.2.2.2.1 (pm_KX.K X.1 X.2.1) hH.1 (pm_ws_D w S) hS a h3 hcl k hk (pm_nF X.1 X.2.1 hlink _) (fun x hx => by rw [← href]; exact hx) hfin (hty k hk) (by rw [ht0]; rfl) (by rw [ht0]; rfl) (by rw [pm_fv_len, hlen]; exact hk) hd fun H1 locs1 hP1 _ hS1 => ?_
    have he : pm_ce w (pm_sI S a (upd (pm_I S a) k v)) a = .inr (ci, (pm_fv w S a 0 (pm_ft ci)).set k (.int v)) := by
      have q : (pm_hd S a).1 = ci := hg S a hG h.1
      have q2 : pm_hd (pm_sI S a (upd (pm_I S a) k v)) a = pm_hd S a := rfl
      simp only [pm_ce, q2, q]
      rw [if_pos (by omega), pm_fv_setI (pm_ft ci) 0 k hft (by omega)]
    rw [h2] at hP1
    have hP2 : va_P (pm_D w) pm_cl (pm_ws w (pm_sI S a (upd (pm_I S a) k v))) H1 := by
      rw [pm_ws_set (S := S) (S' := pm_sI S a (upd (pm_I S a) k v)) (a := a) rfl (fun x hx => pm_ce_congr rfl (by simp [pm_I, pm_sI, pm_sL, pm_sP, hx]) (by simp [pm_L, pm_sI, pm_sL, pm_sP, hx]) (by simp [pm_P, pm_sI, pm_sL, pm_sP, hx])) he]
      exact hP1
    refine pm_sz (S := pm_sI S a (upd (pm_I S a) k v)) (S0 := S0) hP2 hS1 X.2.2.1 hle.1 fun hz => ?_
    exact hc _ _ _ h.2 w p l e s m args below meth c' X H1 locs1 rls (hH.sI h1 he hP1 hz) (hGs.1 _ _ _ hG) hle hS1 hL
  · exact h.elim
theorem ps_pZN {pre : pm_M → Nat → Prop} {C ref : String} {T : u_T} {N ci k idx : Nat} (hf : pm_Fk ci k 0 C T N ref) {host : String} (hlink : Cond.fieldLinkNest μ.1.cls idx ref (T k).2.1 (T k).2.2.1 host ∈ lw_tbl) (hfin : (T k).2.2.2 = false) (ty0 : Nat → FieldType) (hty : ∀ k, k < N → parseFieldDescriptor (T k).2.2.1 = some (ty0 k)) (hnm : ∀ a, a < N → ∀ b, b < N → a ≠ b → (T a).2.1 ≠ (T b).2.1) (ht0 : ty0 k = .boolean) (hd : decode μ.2.1 pc = .ok (.putfield idx, 3)) (hg : ∀ S a, G S → pre S a → (pm_hd S a).1 = ci) (hGs : pm_Gs G) (hc : pm_S μ G d S0 Q (pc + 3) c) : pm_S μ G d S0 Q pc (pi_pZ pre k c) := by
  intro ls st S h
  unfold pi_pZ at h
  split at h
  · rename_i v a r
    intro w p l e s m args below meth c' X H locs rls hH hG hle hS hL
    obtain ⟨hcl, hci, hin, hk, hft, href, hlen⟩ := hf
    obtain ⟨h1, h2, h3⟩ := hH.obj (hg S a hG h.2.1) hci
    refine va_putN (D := pm_D w) (cl := pm_cl) (C := C) (T := T) (N := N) (own := μ.1.cls) X.2.2.2.1 X.2.2.2.2.1 (pm_words X.1 X.2.1 args) hin ty0 hty hnm X.2.2.2.2.2.2.2.1 (pm_KX.K X.1 X.2.1) hH.1 (pm_ws_D w S) hS a h3 hcl k hk (pm_nF X.1 X.2.1 hlink _) (fun x hx => by rw [← href]; exact hx) hfin (hty k hk) (by rw [ht0]; rcases h.1 with q | q <;> rw [q] <;> rfl) (by rw [ht0]; rcases h.1 with q | q <;> rw [q] <;> rfl) (by rw [pm_fv_len, hlen]; exact hk) hd fun H1 locs1 hP1 _ hS1 => ?_
    have he : pm_ce w (pm_sI S a (upd (pm_I S a) k v)) a = .inr (ci, (pm_fv w S a 0 (pm_ft ci)).set k (.int v)) := by
      have q : (pm_hd S a).1 = ci := hg S a hG h.2.1
      have q2 : pm_hd (pm_sI S a (upd (pm_I S a) k v)) a = pm_hd S a := rfl
      simp only [pm_ce, q2, q]
      rw [if_pos (by omega), pm_fv_setI (pm_ft ci) 0 k hft (by omega)]
    rw [h2] at hP1
    have hP2 : va_P (pm_D w) pm_cl (pm_ws w (pm_sI S a (upd (pm_I S a) k v))) H1 := by
      rw [pm_ws_set (S := S) (S' := pm_sI S a (upd (pm_I S a) k v)) (a := a) rfl (fun x hx => pm_ce_congr rfl (by simp [pm_I, pm_sI, pm_sL, pm_sP, hx]) (by simp [pm_L, pm_sI, pm_sL, pm_sP, hx]) (by simp [pm_P, pm_sI, pm_sL, pm_sP, hx])) he]
      exact hP1
    refine pm_sz (S := pm_sI S a (upd (pm_I S a) k v)) (S0 := S0) hP2 hS1 X.2.2.1 hle.1 fun hz => ?_
    exact hc _ _ _ h.2.2 w p l e s m args below meth c' X H1 locs1 rls (hH.sI h1 he hP1 hz) (hGs.1 _ _ _ hG) hle hS1 hL
  · exact h.elim
theorem ps_pLN {pre : pm_M → Nat → Prop} {C ref : String} {T : u_T} {N ci k idx : Nat} (hf : pm_Fk ci k 1 C T N ref) {host : String} (hlink : Cond.fieldLinkNest μ.1.cls idx ref (T k).2.1 (T k).2.2.1 host ∈ lw_tbl) (hfin : (T k).2.2.2 = false) (ty0 : Nat → FieldType) (hty : ∀ k, k < N → parseFieldDescriptor (T k).2.2.1 = some (ty0 k)) (hnm : ∀ a, a < N → ∀ b, b < N → a ≠ b → (T a).2.1 ≠ (T b).2.1) (ht0 : ty0 k = .long) (hd : decode μ.2.1 pc = .ok (.putfield idx, 3)) (hg : ∀ S a, G S → pre S a → (pm_hd S a).1 = ci) (hGs : pm_Gs G) (hc : pm_S μ G d S0 Q (pc + 3) c) : pm_S μ G d S0 Q pc (pi_pL pre k c) := by
  intro ls st S h
  unfold pi_pL at h
  split at h
  · rename_i v a r
    intro w p l e s m args below meth c' X H locs rls hH hG hle hS hL
    obtain ⟨hcl, hci, hin, hk, hft, href, hlen⟩ := hf
    obtain ⟨h1, h2, h3⟩ := hH.obj (hg S a hG h.1) hci
    refine va_putN (D := pm_D w) (cl := pm_cl) (C := C) (T := T) (N := N) (own := μ.1.cls) X.2.2.2.1 X.2.2.2.2.1 (pm_words X.1 X.2.1 args) hin ty0 hty hnm X.2.2.2.2.2.2.2.1 (pm_KX.K X.1 X.2.1) hH.1 (pm_ws_D w S) hS a h3 hcl k hk (pm_nF X.1 X.2.1 hlink _) (fun x hx => by rw [← href]; exact hx) hfin (hty k hk) (by rw [ht0]; rfl) (by rw [ht0]; rfl) (by rw [pm_fv_len, hlen]; exact hk) hd fun H1 locs1 hP1 _ hS1 => ?_
    have he : pm_ce w (pm_sL S a (vp_updL (pm_L S a) k v)) a = .inr (ci, (pm_fv w S a 0 (pm_ft ci)).set k (.long v)) := by
      have q : (pm_hd S a).1 = ci := hg S a hG h.1
      have q2 : pm_hd (pm_sL S a (vp_updL (pm_L S a) k v)) a = pm_hd S a := rfl
      simp only [pm_ce, q2, q]
      rw [if_pos (by omega), pm_fv_setL (pm_ft ci) 0 k hft (by omega)]
    rw [h2] at hP1
    have hP2 : va_P (pm_D w) pm_cl (pm_ws w (pm_sL S a (vp_updL (pm_L S a) k v))) H1 := by
      rw [pm_ws_set (S := S) (S' := pm_sL S a (vp_updL (pm_L S a) k v)) (a := a) rfl (fun x hx => pm_ce_congr rfl (by simp [pm_I, pm_sI, pm_sL, pm_sP, hx]) (by simp [pm_L, pm_sI, pm_sL, pm_sP, hx]) (by simp [pm_P, pm_sI, pm_sL, pm_sP, hx])) he]
      exact hP1
    refine pm_sz (S := pm_sL S a (vp_updL (pm_L S a) k v)) (S0 := S0) hP2 hS1 X.2.2.1 hle.1 fun hz => ?_
    exact hc _ _ _ h.2 w p l e s m args below meth c' X H1 locs1 rls (hH.sL he hP1 hz) (hGs.2.1 _ _ _ hG) hle hS1 hL
  · exact h.elim
theorem ps_pPN {pre : pm_M → Nat → Prop} {C ref : String} {T : u_T} {N ci k idx : Nat} (hf : pm_Fk ci k 2 C T N ref) {host : String} (hlink : Cond.fieldLinkNest μ.1.cls idx ref (T k).2.1 (T k).2.2.1 host ∈ lw_tbl) (hfin : (T k).2.2.2 = false) (ty0 : Nat → FieldType) (hty : ∀ k, k < N → parseFieldDescriptor (T k).2.2.1 = some (ty0 k)) (hnm : ∀ a, a < N → ∀ b, b < N → a ≠ b → (T a).2.1 ≠ (T b).2.1) (hn0 : ∀ v : Value, v.isRef = true → narrow (ty0 k) v = v ∧ fits (ty0 k) v = true) (hd : decode μ.2.1 pc = .ok (.putfield idx, 3)) (hg : ∀ S a, G S → pre S a → (pm_hd S a).1 = ci) (hc : pm_S μ G d S0 Q (pc + 3) c) : pm_S μ G d S0 Q pc (pi_pP G pre k c) := by
  intro ls st S h
  unfold pi_pP at h
  split at h
  · rename_i v a r
    intro w p l e s m args below meth c' X H locs rls hH hG hle hS hL
    obtain ⟨hcl, hci, hin, hk, hft, href, hlen⟩ := hf
    obtain ⟨h1, h2, h3⟩ := hH.obj (hg S a hG h.1) hci
    refine va_putN (D := pm_D w) (cl := pm_cl) (C := C) (T := T) (N := N) (own := μ.1.cls) X.2.2.2.1 X.2.2.2.2.1 (pm_words X.1 X.2.1 args) hin ty0 hty hnm X.2.2.2.2.2.2.2.1 (pm_KX.K X.1 X.2.1) hH.1 (pm_ws_D w S) hS a h3 hcl k hk (pm_nF X.1 X.2.1 hlink _) (fun x hx => by rw [← href]; exact hx) hfin (hty k hk) (hn0 (.ref (pm_f w v)) rfl).1 (hn0 (.ref (pm_f w v)) rfl).2 (by rw [pm_fv_len, hlen]; exact hk) hd fun H1 locs1 hP1 _ hS1 => ?_
    have he : pm_ce w (pm_sP S a (va_up (pm_P S a) k (some v))) a = .inr (ci, (pm_fv w S a 0 (pm_ft ci)).set k (pm_r w (some v))) := by
      have q : (pm_hd S a).1 = ci := hg S a hG h.1
      have q2 : pm_hd (pm_sP S a (va_up (pm_P S a) k (some v))) a = pm_hd S a := rfl
      simp only [pm_ce, q2, q]
      rw [if_pos (by omega), pm_fv_setP (pm_ft ci) 0 k hft (by omega)]
    rw [h2] at hP1
    have hP2 : va_P (pm_D w) pm_cl (pm_ws w (pm_sP S a (va_up (pm_P S a) k (some v)))) H1 := by
      rw [pm_ws_set (S := S) (S' := pm_sP S a (va_up (pm_P S a) k (some v))) (a := a) rfl (fun x hx => pm_ce_congr rfl (by simp [pm_I, pm_sI, pm_sL, pm_sP, hx]) (by simp [pm_L, pm_sI, pm_sL, pm_sP, hx]) (by simp [pm_P, pm_sI, pm_sL, pm_sP, hx])) he]
      exact hP1
    refine pm_sz (S := pm_sP S a (va_up (pm_P S a) k (some v))) (S0 := S0) hP2 hS1 X.2.2.1 hle.1 fun hz => ?_
    exact hc _ _ _ h.2.2 w p l e s m args below meth c' X H1 locs1 rls (hH.sP he hP1 hz) (h.2.1 hG) hle hS1 hL
  · rename_i a r
    intro w p l e s m args below meth c' X H locs rls hH hG hle hS hL
    obtain ⟨hcl, hci, hin, hk, hft, href, hlen⟩ := hf
    obtain ⟨h1, h2, h3⟩ := hH.obj (hg S a hG h.1) hci
    refine va_putN (D := pm_D w) (cl := pm_cl) (C := C) (T := T) (N := N) (own := μ.1.cls) X.2.2.2.1 X.2.2.2.2.1 (pm_words X.1 X.2.1 args) hin ty0 hty hnm X.2.2.2.2.2.2.2.1 (pm_KX.K X.1 X.2.1) hH.1 (pm_ws_D w S) hS a h3 hcl k hk (pm_nF X.1 X.2.1 hlink _) (fun x hx => by rw [← href]; exact hx) hfin (hty k hk) (hn0 .null rfl).1 (hn0 .null rfl).2 (by rw [pm_fv_len, hlen]; exact hk) hd fun H1 locs1 hP1 _ hS1 => ?_
    have he : pm_ce w (pm_sP S a (va_up (pm_P S a) k none)) a = .inr (ci, (pm_fv w S a 0 (pm_ft ci)).set k (pm_r w none)) := by
      have q : (pm_hd S a).1 = ci := hg S a hG h.1
      have q2 : pm_hd (pm_sP S a (va_up (pm_P S a) k none)) a = pm_hd S a := rfl
      simp only [pm_ce, q2, q]
      rw [if_pos (by omega), pm_fv_setP (pm_ft ci) 0 k hft (by omega)]
    rw [h2] at hP1
    have hP2 : va_P (pm_D w) pm_cl (pm_ws w (pm_sP S a (va_up (pm_P S a) k none))) H1 := by
      rw [pm_ws_set (S := S) (S' := pm_sP S a (va_up (pm_P S a) k none)) (a := a) rfl (fun x hx => pm_ce_congr rfl (by simp [pm_I, pm_sI, pm_sL, pm_sP, hx]) (by simp [pm_L, pm_sI, pm_sL, pm_sP, hx]) (by simp [pm_P, pm_sI, pm_sL, pm_sP, hx])) he]
      exact hP1
    refine pm_sz (S := pm_sP S a (va_up (pm_P S a) k none)) (S0 := S0) hP2 hS1 X.2.2.1 hle.1 fun hz => ?_
    exact hc _ _ _ h.2.2 w p l e s m args below meth c' X H1 locs1 rls (hH.sP he hP1 hz) (h.2.1 hG) hle hS1 hL
  · exact h.elim
end PM
